section
/-- condition 0's part of the next state: c conditions (0 or 1; the one is FIRST with number d) -/
def sr_r (c d s x : Nat) : Nat := if c = 0 then 0 else if s / 64 = 4 then (if x < d then 2 else 1) else s % 4
/-- the next state -/
def sr_nx (c d s x : Nat) : Nat := 64 * x + sr_r c d s x
/-- does a state accept -/
def sr_ac (c s : Nat) : Nat := if c = 0 then 1 else if s % 4 = 1 then 1 else 0
/-- the table of ways -/
def sr_wy (c d k s : Nat) : Nat := if c = 0 then 4 ^ k else if k = 0 then sr_ac 1 s else if s / 64 = 4 then (4 - d) * 4 ^ (k - 1) else if s % 4 = 1 then 4 ^ k else 0
def sr_sm (f : Nat → Nat) : Nat → Nat
  | 0 => 0
  | n + 1 => sr_sm f n + f n
/-- the state behind the first i staged elements -/
def sr_st (c d : Nat) (g : Nat → Nat) : Nat → Nat
  | 0 => 256
  | n + 1 => sr_nx c d (sr_st c d g n) (g n)
theorem sr_r_lt {c d s x : Nat} : sr_r c d s x < 4 := by
  unfold sr_r
  repeat' split
  all_goals omega
theorem sr_nx_lt {c d s x : Nat} (hx : x < 4) : sr_nx c d s x < 256 := by
  have := sr_r_lt (c := c) (d := d) (s := s) (x := x)
  unfold sr_nx
  omega
theorem sr_nx_mod {c d s x : Nat} : sr_nx c d s x % 4 = sr_r c d s x := by
  have := sr_r_lt (c := c) (d := d) (s := s) (x := x)
  unfold sr_nx
  omega
theorem sr_st_lt {c d : Nat} {g : Nat → Nat} {n : Nat} (hg : ∀ i, i < n → g i < 4) : ∀ i, i ≤ n → sr_st c d g i < 320 := by
  intro i hi
  cases i with
  | zero => show 256 < 320; omega
  | succ i =>
    have := sr_nx_lt (c := c) (d := d) (s := sr_st c d g i) (hg i (by omega))
    show sr_nx c d (sr_st c d g i) (g i) < 320
    omega
theorem sr_ac01 (c s : Nat) : sr_ac c s = 0 ∨ sr_ac c s = 1 := by
  unfold sr_ac
  repeat' split
  all_goals omega
theorem sr_low {d k t : Nat} (ht : t < 256) : sr_wy 1 d k t = if t % 4 = 1 then 4 ^ k else 0 := by
  unfold sr_wy sr_ac
  have h : ¬ t / 64 = 4 := by omega
  by_cases hk : k = 0
  · subst hk
    simp
  · simp [hk, h]
theorem sr_wy0 {c d s : Nat} (hc : c ≤ 1) : sr_wy c d 0 s = sr_ac c s := by
  rcases (show c = 0 ∨ c = 1 by omega) with rfl | rfl
  · simp [sr_wy, sr_ac]
  · simp [sr_wy]
theorem sr_rec {c d k s : Nat} (hc : c ≤ 1) (hd : d < 4) : sr_sm (fun x => sr_wy c d k (sr_nx c d s x)) 4 = sr_wy c d (k + 1) s := by
  rcases (show c = 0 ∨ c = 1 by omega) with rfl | rfl
  · simp [sr_sm, sr_wy, Nat.pow_succ]
    omega
  · simp only [sr_sm]
    rw [sr_low (sr_nx_lt (by omega)), sr_low (sr_nx_lt (by omega)), sr_low (sr_nx_lt (by omega)), sr_low (sr_nx_lt (by omega)), sr_nx_mod, sr_nx_mod, sr_nx_mod, sr_nx_mod]
    unfold sr_wy sr_r
    by_cases h : s / 64 = 4
    · rcases (show d = 0 ∨ d = 1 ∨ d = 2 ∨ d = 3 by omega) with rfl | rfl | rfl | rfl <;> simp [h] <;> omega
    · by_cases g : s % 4 = 1
      · simp [h, g, Nat.pow_succ]
        omega
      · simp [h, g]
/-- the first n places of the array hold the table -/
def sr_P (c d n : Nat) (a : Nat → Int32) : Prop := ∀ m, m < n → a m = nI (sr_wy c d (m / 320) (m % 320))
theorem sr_get {c d n k s : Nat} {a : Nat → Int32} (h : sr_P c d n a) (hk : k * 320 + s < n) (hs : s < 320) : a (k * 320 + s) = nI (sr_wy c d k s) := by
  have e := h _ hk
  rw [show (k * 320 + s) / 320 = k by omega, show (k * 320 + s) % 320 = s by omega] at e
  exact e
theorem sr_put {c d n : Nat} {a : Nat → Int32} {v : Int32} (h : sr_P c d n a) (hv : v = nI (sr_wy c d (n / 320) (n % 320))) : sr_P c d (n + 1) (upd a n v) := by
  intro m hm
  by_cases e : m = n
  · rw [e, pk_us, hv]
  · rw [pk_un e]
    exact h m (by omega)
theorem sr_P0 {c d : Nat} {a : Nat → Int32} : sr_P c d 0 a := fun m hm => absurd hm (by omega)
/-- where the one condition stands, if there is one -/
def sr_ok (c d : Nat) (a1 a2 : Nat → Int32) : Prop := c ≤ 1 ∧ d < 4 ∧ (c = 1 → a1 0 = 5 ∧ a2 0 = nI d)
theorem sr_or : ∀ x, x < 4 → ∀ r, r < 4 → nI (x * 2 ^ 6) ||| (nI r <<< (((2 : Int32) * 0) &&& 31)) = nI (64 * x + r) := by decide +kernel
theorem sr_p1 {s : Nat} (hs : s < 320) : (nI s >>> (((2 : Int32) * 0) &&& 31)) &&& 3 = nI (s % 4) := by
  rw [pk_shrN (by omega) _ 0 (by decide), Nat.pow_zero, Nat.div_one, pk_andN (by omega) 2 (by decide)]
theorem sr_ix (k s : Nat) : nI k * 320 + nI s = nI (k * 320 + s) := by
  rw [show (320 : Int32) = nI 320 from rfl, pk_mul, nI_add]
/-- the staged elements -/
def sr_g (a b e : Nat) : Nat → Nat := fun i => if i = 0 then a else if i = 1 then b else e
theorem sr_g_lt {a b e : Nat} (ha : a < 4) (hb : b < 4) (he : e < 4) (i : Nat) : sr_g a b e i < 4 := by
  unfold sr_g
  repeat' split
  all_goals omega
/-- what rank() answers -/
def sr_rk (c d : Nat) (g : Nat → Nat) (n : Nat) : Nat := sr_sm (fun k => sr_wy c d k 256) n + sr_sm (fun i => sr_sm (fun x => sr_wy c d (n - i - 1) (sr_nx c d (sr_st c d g i) x)) (g i)) n
/-- what extending() answers -/
def sr_ex (c d : Nat) (g : Nat → Nat) (n : Nat) : Nat := sr_sm (fun k => sr_wy c d k (sr_st c d g n)) (7 - n)
theorem sr_fRank : ∀ a, a < 4 → ∀ b, b < 4 → ∀ e, e < 4 → nI (sr_rk 0 0 (sr_g a b e) 3) = ((21 + (16 * nI a)) + (4 * nI b)) + nI e := by decide +kernel
theorem sr_fExt0 : ∀ a, a < 4 → ∀ b, b < 4 → ∀ e, e < 4 → nI (sr_ex 0 0 (sr_g a b e) 3) = 85 := by decide +kernel
theorem sr_fExt1 : ∀ a, a < 4 → ∀ b, b < 4 → ∀ e, e < 4 → nI (sr_ex 1 e (sr_g a b e) 3) = if a < e then 0 else 85 := by decide +kernel
theorem sr_fFails : ∀ a, a < 4 → ∀ b, b < 4 → ∀ e, e < 4 → sr_ac 1 (sr_st 1 e (sr_g a b e) 3) = if a < e then 0 else 1 := by decide +kernel
theorem sr_fOf : ∀ e, e < 4 → nI (sr_wy 1 e 1 256) = 4 - nI e := by decide +kernel
theorem sr_fTot : ∀ e, e < 4 → 0 < sr_sm (fun k => sr_wy 1 e k 256) 7 ∧ sr_sm (fun k => sr_wy 1 e k 256) 7 < 65536 := by decide +kernel
theorem sr_fLo : ∀ e, e < 4 → ∀ i, i ≤ e → sr_sm (fun x => sr_wy 1 e 0 (sr_nx 1 e 256 x)) i = 0 := by decide +kernel
theorem sr_fHi : ∀ e, e < 4 → sr_sm (fun x => sr_wy 1 e 0 (sr_nx 1 e 256 x)) (e + 1) = 1 := by decide +kernel
end
section
theorem sr_go {post : Int32 → Prop} {f0 f1 f2 f3 : Int32} {a1 a2 a3 a4 a5 a6 : Nat → Int32} {d p q x : Nat} (h1 : a1 0 = 5) (h2 : a2 0 = nI d) (hd : d < 4) (hq : q < 6) (hx : x < 4) (H : post (nI (if q = 4 then (if x < d then 2 else 1) else p))) : wpX_goOn post (f0, f1, f2, f3, a1, a2, a3, a4, a5, a6) 0 (nI p) (nI q) (nI x) := by
  unfold wpX_goOn
  dsimp only
  refine ⟨pk_in 0 3 (by omega), nm_r (e' := nI d) (by rw [sb_cl0]; exact h2) ⟨pk_in 0 3 (by omega), nm_e ⟨pk_in 0 3 (by omega), nm_r (e' := 5) (by rw [sb_cl0]; exact h1) ?_⟩⟩⟩
  refine br_f (by decide) (br_f (by decide) (br_f (by decide) (br_f (by decide) (br_f (by decide) (br_f (by decide) (br_f (by decide) (br_t rfl ?_)))))))
  refine pk_eq q 4 (fun z => pk_lt x d (fun g => ?_) (fun g => ?_)) (fun z => ?_)
  · rw [if_pos z, if_pos g] at H
    exact H
  · rw [if_pos z, if_neg (by omega)] at H
    exact H
  · rw [if_neg z] at H
    exact H
theorem sr_next {post : Int32 → Prop} {f1 f2 f3 : Int32} {a1 a2 a3 a4 a5 a6 : Nat → Int32} {c d s x : Nat} (k : sr_ok c d a1 a2) (hs : s < 320) (hx : x < 4) (H : post (nI (sr_nx c d s x))) : wpX_next post (nI c, f1, f2, f3, a1, a2, a3, a4, a5, a6) (nI s) (nI x) := by
  obtain ⟨hc, hd, k1⟩ := k
  unfold wpX_next
  dsimp only
  refine nm_r (e' := nI (s / 2 ^ 6)) (pk_shrN (by omega) _ 6 (by decide)) (nm_r (e' := nI (x * 2 ^ 6)) (pk_shlN _ 6 (by decide) (by omega)) ?_)
  rcases (show c = 0 ∨ c = 1 by omega) with rfl | rfl
  · refine ⟨0 + 1, pk_le 0 0 (fun _ => ?_) (fun z => absurd z (by omega))⟩
    have e : sr_nx 0 d s x = x * 2 ^ 6 := by
      unfold sr_nx sr_r
      rw [if_pos rfl]
      omega
    rw [e] at H
    exact H
  · refine ⟨0 + 1 + 1, pk_le 1 0 (fun z => absurd z (by omega)) (fun _ => ?_)⟩
    rw [sr_p1 hs]
    refine sr_go (k1 rfl).1 (k1 rfl).2 hd (by omega) hx ?_
    have e : sr_r 1 d s x = if s / 2 ^ 6 = 4 then (if x < d then 2 else 1) else s % 4 := by
      unfold sr_r
      rw [if_neg (by decide)]
    rw [← e]
    refine nm_r (e' := nI (sr_nx 1 d s x)) (sr_or x hx _ sr_r_lt) (nm_r (e' := nI 1) rfl ?_)
    exact pk_le 1 1 (fun _ => H) (fun z => absurd z (by omega))
theorem sr_accs {post : Int32 → Prop} {f0 f1 f2 f3 : Int32} {a1 a2 a3 a4 a5 a6 : Nat → Int32} {p : Nat} {q : Int32} (h1 : a1 0 = 5) (hp : p < 4) (H : post (nI (if p = 1 then 1 else 0))) : wpX_accepts post (f0, f1, f2, f3, a1, a2, a3, a4, a5, a6) 0 (nI p) q := by
  unfold wpX_accepts
  dsimp only
  refine ⟨pk_in 0 3 (by omega), nm_e ⟨pk_in 0 3 (by omega), nm_e ⟨pk_in 0 3 (by omega), nm_r (e' := 5) (by rw [sb_cl0]; exact h1) ?_⟩⟩⟩
  refine br_f (by decide) (br_f (by decide) (br_f (by decide) (br_f (by decide) (br_f (by decide) (br_f (by decide) (br_f (by decide) (br_t rfl ?_)))))))
  refine pk_eq p 1 (fun z => ?_) (fun z => ?_)
  · rw [if_pos z] at H
    exact H
  · rw [if_neg z] at H
    exact H
theorem sr_acc {post : Int32 → Prop} {f1 f2 f3 : Int32} {a1 a2 a3 a4 a5 a6 : Nat → Int32} {c d s : Nat} (k : sr_ok c d a1 a2) (hs : s < 320) (H : post (nI (sr_ac c s))) : wpX_accepting post (nI c, f1, f2, f3, a1, a2, a3, a4, a5, a6) (nI s) := by
  obtain ⟨hc, hd, k1⟩ := k
  unfold wpX_accepting
  dsimp only
  rcases (show c = 0 ∨ c = 1 by omega) with rfl | rfl
  · exact ⟨0 + 1, pk_le 0 0 (fun _ => H) (fun z => absurd z (by omega))⟩
  · refine ⟨0 + 1 + 1, pk_le 1 0 (fun z => absurd z (by omega)) (fun _ => ?_)⟩
    rw [sr_p1 hs]
    refine sr_accs (k1 rfl).1 (by omega) ?_
    unfold sr_ac at H
    rw [if_neg (by decide)] at H
    by_cases g : s % 4 = 1
    · rw [if_pos g] at H ⊢
      exact br_f (by decide) (nm_r (e' := nI 1) rfl (pk_le 1 1 (fun _ => H) (fun z => absurd z (by omega))))
    · rw [if_neg g] at H ⊢
      exact br_t rfl H
theorem sr_sum {post : Int32 → Prop} {f1 f2 f3 : Int32} {a1 a2 a3 a4 a5 a6 : Nat → Int32} {c d j s t : Nat} (k : sr_ok c d a1 a2) (hj : j ≤ 6) (hs : s < 320) (ht : t ≤ 4) (T : ∀ s, s < 256 → a6 (j * 320 + s) = nI (sr_wy c d j s)) (H : post (nI (sr_sm (fun x => sr_wy c d j (sr_nx c d s x)) t))) : wpX_sumOver post (nI c, f1, f2, f3, a1, a2, a3, a4, a5, a6) (nI j) (nI s) (nI t) := by
  unfold wpX_sumOver
  dsimp only
  refine pk_loop (σ := Unit) (fun n i _ => wX_sumOver_6 post (nI j) (nI s) (nI t) (nI c) f1 f2 f3 a1 a2 a3 a4 a5 a6 n (nI (sr_sm (fun x => sr_wy c d j (sr_nx c d s x)) i)) (nI i)) (fun _ _ => True) t 0 () (by omega) trivial ?_ ?_
  · intro n _ _
    exact pk_le t t (fun _ => H) (fun z => absurd z (by omega))
  · intro n i _ hi _ hw
    refine pk_le t i (fun z => absurd z (by omega)) (fun _ => sr_next k hs (by omega) ?_)
    have l := sr_nx_lt (c := c) (d := d) (s := s) (show i < 4 by omega)
    refine ⟨pk_in (j * 320 + sr_nx c d s i) 2240 (by omega) (sr_ix _ _), nm_r (e' := nI (sr_sm (fun x => sr_wy c d j (sr_nx c d s x)) (i + 1))) ?_ (nm_r (nI_1 i) (hw () trivial))⟩
    rw [sr_ix, nI_clamp (by omega), T _ l, nI_add]
    rfl
end
section
theorem sr_59 {post : St2 → Prop} {J : Int32 → (Nat → Int32) → (Nat → Int32) → (Nat → Int32) → (Nat → Int32) → (Nat → Int32) → (Nat → Int32) → Prop} {f1 f2 f3 : Int32} {a1 a2 a3 a4 a5 a6 : Nat → Int32} {c d K : Nat} (k : sr_ok c d a1 a2) (hK : K < 6) (T : sr_P c d ((K + 1) * 320) a6) (H : ∀ a, sr_P c d ((K + 2) * 320) a → J (nI (K + 2)) a1 a2 a3 a4 a5 a) : ∃ n, wX_prepare_59 post J (nI (K + 1)) (nI c) f1 f2 f3 n 0 a1 a2 a3 a4 a5 a6 := by
  refine pk_loop (fun n i s => wX_prepare_59 post J (nI (K + 1)) (nI c) f1 f2 f3 n (nI i) a1 a2 a3 a4 a5 s) (fun i s => sr_P c d ((K + 1) * 320 + i) s) 320 0 a6 (by omega) T ?_ ?_
  · intro n s h
    refine pk_le 320 320 (fun _ => nm_r (nI_1 (K + 1)) (H s ?_)) (fun z => absurd z (by omega))
    rw [show (K + 2) * 320 = (K + 1) * 320 + 320 by omega]
    exact h
  · intro n i s hi h hw
    refine pk_le 320 i (fun z => absurd z (by omega)) (fun _ => ?_)
    rw [nI_pred]
    refine sr_sum (t := 4) k (by omega) hi (by omega) (fun t ht => sr_get h (by omega) (by omega)) ?_
    rw [sr_rec k.1 k.2.1]
    refine ⟨pk_in ((K + 1) * 320 + i) 2240 (by omega) (sr_ix _ _), nm_r (e' := upd s ((K + 1) * 320 + i) (nI (sr_wy c d (K + 1) i))) ?_ (nm_r (nI_1 i) (hw _ (sr_put (n := (K + 1) * 320 + i) h ?_)))⟩
    · rw [sr_ix, nI_clamp (by omega)]
    · rw [show ((K + 1) * 320 + i) / 320 = K + 1 by omega, show ((K + 1) * 320 + i) % 320 = i by omega]
theorem sr_51 {post : St2 → Prop} {f1 f2 f3 : Int32} {a1 a2 a3 a4 a5 a6 : Nat → Int32} {c d : Nat} (k : sr_ok c d a1 a2) (T : sr_P c d 320 a6) (H : ∀ a, sr_P c d 2240 a → post (nI c, f1, f2, f3, a1, a2, a3, a4, a5, a)) : ∃ n, wX_prepare_51 post (nI c) f1 f2 f3 n 1 a1 a2 a3 a4 a5 a6 := by
  refine pk_loop (fun n i s => wX_prepare_51 post (nI c) f1 f2 f3 n (nI i) a1 a2 a3 a4 a5 s) (fun i s => 1 ≤ i ∧ sr_P c d (i * 320) s) 7 1 a6 (by omega) ⟨by omega, T⟩ ?_ ?_
  · intro n s h
    exact pk_lt 6 7 (fun _ => H s h.2) (fun z => absurd z (by omega))
  · intro n i s hi h hw
    obtain ⟨h1, h2⟩ := h
    obtain ⟨K, rfl⟩ : ∃ K, i = K + 1 := ⟨i - 1, by omega⟩
    exact pk_lt 6 (K + 1) (fun z => absurd z (by omega)) (fun _ => sr_59 k (by omega) h2 (fun a ha => hw a ⟨by omega, ha⟩))
theorem sr_15 {post : St2 → Prop} {f1 f2 f3 : Int32} {a1 a2 a3 a4 a5 a6 : Nat → Int32} {c d : Nat} (k : sr_ok c d a1 a2) (H : ∀ a, sr_P c d 2240 a → post (nI c, f1, f2, f3, a1, a2, a3, a4, a5, a)) : ∃ n, wX_prepare_15 post (nI c) f1 f2 f3 n 0 a1 a2 a3 a4 a5 a6 := by
  refine pk_loop (fun n i s => wX_prepare_15 post (nI c) f1 f2 f3 n (nI i) a1 a2 a3 a4 a5 s) (fun i s => sr_P c d i s) 320 0 a6 (by omega) sr_P0 ?_ ?_
  · intro n s h
    exact pk_le 320 320 (fun _ => sr_51 k h H) (fun z => absurd z (by omega))
  · intro n i s hi h hw
    refine pk_le 320 i (fun z => absurd z (by omega)) (fun _ => sr_acc k hi ?_)
    have e : sr_wy c d (i / 320) (i % 320) = sr_ac c i := by
      rw [show i / 320 = 0 by omega, show i % 320 = i by omega]
      exact sr_wy0 k.1
    rcases sr_ac01 c i with g | g
    · rw [g] at e ⊢
      exact br_t rfl ⟨pk_in i 2240 (by omega), nm_r (e' := upd s i (nI 0)) (by rw [nI_clamp (by omega)]; rfl) (nm_r (nI_1 i) (hw _ (sr_put h (by rw [e]))))⟩
    · rw [g] at e ⊢
      exact br_f (by decide) ⟨pk_in i 2240 (by omega), nm_r (e' := upd s i (nI 1)) (by rw [nI_clamp (by omega)]; rfl) (nm_r (nI_1 i) (hw _ (sr_put h (by rw [e]))))⟩
theorem sr_prep {post : St2 → Prop} {f1 f2 f3 : Int32} {a1 a2 a3 a4 a5 a6 : Nat → Int32} {c d : Nat} (k : sr_ok c d a1 a2) (hr : f3 = 0 ∨ (f3 = 1 ∧ sr_P c d 2240 a6)) (H : ∀ a, sr_P c d 2240 a → post (nI c, f1, f2, 1, a1, a2, a3, a4, a5, a)) : wpX_prepare post (nI c, f1, f2, f3, a1, a2, a3, a4, a5, a6) := by
  unfold wpX_prepare
  dsimp only
  rcases hr with h | ⟨h, T⟩
  · exact br_t h (sr_15 k H)
  · subst h
    exact br_f (by decide) (H a6 T)
end
section
/-- the stage holds the n elements g -/
def sr_sg (g : Nat → Nat) (n : Nat) (a4 : Nat → Int32) : Prop := n ≤ 6 ∧ ∀ i, i < n → g i < 4 ∧ a4 i = nI (g i)
theorem sr_at {c d j s : Nat} {a : Nat → Int32} {x : Int32} (T : sr_P c d 2240 a) (hj : j ≤ 6) (hs : s < 320) (hx : x = nI s) : a (nI j * 320 + x).toNatClampNeg = nI (sr_wy c d j s) := by
  rw [hx, sr_ix, nI_clamp (by omega)]
  exact sr_get T (by omega) hs
theorem sr_stage {post : Int32 → Prop} {f1 f2 f3 : Int32} {a1 a2 a3 a4 a5 a6 : Nat → Int32} {c d n : Nat} {g : Nat → Nat} (k : sr_ok c d a1 a2) (q : sr_sg g n a4) (H : post (nI (sr_st c d g n))) : wpX_stageState post (nI c, f1, f2, f3, a1, a2, a3, a4, a5, a6) (nI n) := by
  unfold wpX_stageState
  dsimp only
  obtain ⟨hn, hq⟩ := q
  have L := sr_st_lt (c := c) (d := d) (fun i hi => (hq i hi).1)
  refine pk_loop (σ := Unit) (fun m i _ => wX_stageState_6 post (nI n) (nI c) f1 f2 f3 a1 a2 a3 a4 a5 a6 m (nI (sr_st c d g i)) (nI i)) (fun _ _ => True) n 0 () (by omega) trivial ?_ ?_
  · intro m _ _
    exact pk_le n n (fun _ => H) (fun z => absurd z (by omega))
  · intro m i _ hi _ hw
    refine pk_le n i (fun z => absurd z (by omega)) (fun _ => ⟨pk_in i 6 (by omega), ?_⟩)
    rw [nI_clamp (by omega), (hq i hi).2]
    exact sr_next k (L i (by omega)) (hq i hi).1 (nm_r (nI_1 i) (hw () trivial))
theorem sr_r45 {post : Int32 → St2 → Prop} {f2 f3 : Int32} {a1 a2 a3 a4 a5 a6 : Nat → Int32} {c d n : Nat} {g : Nat → Nat} (k : sr_ok c d a1 a2) (q : sr_sg g n a4) (T : sr_P c d 2240 a6) (v : Nat) (H : post (nI (v + sr_sm (fun i => sr_sm (fun x => sr_wy c d (n - i - 1) (sr_nx c d (sr_st c d g i) x)) (g i)) n)) (nI c, nI n, f2, f3, a1, a2, a3, a4, a5, a6)) : ∃ m, wX_rank_45 post (nI c) (nI n) f2 f3 a1 a2 a3 a4 a5 a6 m (nI v) 256 0 := by
  obtain ⟨hn, hq⟩ := q
  have L := sr_st_lt (c := c) (d := d) (fun i hi => (hq i hi).1)
  refine pk_loop (σ := Unit) (fun m i _ => wX_rank_45 post (nI c) (nI n) f2 f3 a1 a2 a3 a4 a5 a6 m (nI (v + sr_sm (fun i => sr_sm (fun x => sr_wy c d (n - i - 1) (sr_nx c d (sr_st c d g i) x)) (g i)) i)) (nI (sr_st c d g i)) (nI i)) (fun _ _ => True) n 0 () (by omega) trivial ?_ ?_
  · intro m _ _
    exact pk_le n n (fun _ => H) (fun z => absurd z (by omega))
  · intro m i _ hi _ hw
    have e : (nI n - nI i) - 1 = nI (n - i - 1) := by
      rw [pk_sub (by omega)]
      exact pk_sub (b := 1) (by omega)
    have l := (hq i hi).1
    refine pk_le n i (fun z => absurd z (by omega)) (fun _ => ⟨pk_in i 6 (by omega), ?_⟩)
    rw [nI_clamp (by omega), (hq i hi).2, e]
    refine sr_sum k (by omega) (L i (by omega)) (by omega) (fun s hs => sr_get T (by omega) (by omega)) ?_
    refine nm_r (e' := nI (v + sr_sm (fun i => sr_sm (fun x => sr_wy c d (n - i - 1) (sr_nx c d (sr_st c d g i) x)) (g i)) (i + 1))) ?_ ⟨pk_in i 6 (by omega), sr_next k (L i (by omega)) l (nm_r (nI_1 i) (hw () trivial))⟩
    rw [nI_add, Nat.add_assoc]
    rfl
theorem sr_rank {post : Int32 → St2 → Prop} {f2 f3 : Int32} {a1 a2 a3 a4 a5 a6 : Nat → Int32} {c d n : Nat} {g : Nat → Nat} (k : sr_ok c d a1 a2) (q : sr_sg g n a4) (hr : f3 = 0 ∨ (f3 = 1 ∧ sr_P c d 2240 a6)) (H : ∀ a, sr_P c d 2240 a → post (nI (sr_rk c d g n)) (nI c, nI n, f2, 1, a1, a2, a3, a4, a5, a)) : wpX_rank post (nI c, nI n, f2, f3, a1, a2, a3, a4, a5, a6) := by
  unfold wpX_rank
  dsimp only
  refine sr_prep k hr (fun a T => ?_)
  have hn := q.1
  refine pk_loop (σ := Unit) (fun m i _ => wX_rank_8 post (nI c) (nI n) f2 1 a1 a2 a3 a4 a5 a m (nI (sr_sm (fun k => sr_wy c d k 256) i)) (nI i)) (fun _ _ => True) n 0 () (by omega) trivial ?_ ?_
  · intro m _ _
    exact pk_le n n (fun _ => sr_r45 k q T _ (H a T)) (fun z => absurd z (by omega))
  · intro m i _ hi _ hw
    refine pk_le n i (fun z => absurd z (by omega)) (fun _ => ⟨pk_in (i * 320 + 256) 2240 (by omega) (sr_ix i 256), nm_r (e' := nI (sr_sm (fun k => sr_wy c d k 256) (i + 1))) ?_ (nm_r (nI_1 i) (hw () trivial))⟩)
    rw [sr_at T (s := 256) (x := 256) (by omega) (by omega) rfl, nI_add]
    rfl
theorem sr_ext {post : Int32 → St2 → Prop} {f2 f3 : Int32} {a1 a2 a3 a4 a5 a6 : Nat → Int32} {c d n : Nat} {g : Nat → Nat} (k : sr_ok c d a1 a2) (q : sr_sg g n a4) (hr : f3 = 0 ∨ (f3 = 1 ∧ sr_P c d 2240 a6)) (H : ∀ a, sr_P c d 2240 a → post (nI (sr_ex c d g n)) (nI c, nI n, f2, 1, a1, a2, a3, a4, a5, a)) : wpX_extending post (nI c, nI n, f2, f3, a1, a2, a3, a4, a5, a6) := by
  unfold wpX_extending
  dsimp only
  refine sr_prep k hr (fun a T => ?_)
  have hn := q.1
  have L := sr_st_lt (c := c) (d := d) (fun i hi => (q.2 i hi).1) n (Nat.le_refl n)
  refine sr_stage k q ?_
  have e6 : (6 : Int32) - nI n = nI (6 - n) := pk_sub (a := 6) hn
  refine pk_loop (σ := Unit) (fun m i _ => wX_extending_17 post (nI (sr_st c d g n)) (nI c) (nI n) f2 1 a1 a2 a3 a4 a5 a m (nI (sr_sm (fun k => sr_wy c d k (sr_st c d g n)) i)) (nI i)) (fun _ _ => True) (7 - n) 0 () (by omega) trivial ?_ ?_
  · intro m _ _
    exact pk_lt (6 - n) (7 - n) (fun _ => H a T) (fun z => absurd z (by omega)) e6
  · intro m i _ hi _ hw
    refine pk_lt (6 - n) i (fun z => absurd z (by omega)) (fun _ => ⟨pk_in (i * 320 + sr_st c d g n) 2240 (by omega) (sr_ix i _), nm_r (e' := nI (sr_sm (fun k => sr_wy c d k (sr_st c d g n)) (i + 1))) ?_ (nm_r (nI_1 i) (hw () trivial))⟩) e6
    rw [sr_at T (by omega) L rfl, nI_add]
    rfl
theorem sr_tot {post : Int32 → St2 → Prop} {f1 f2 f3 : Int32} {a1 a2 a3 a4 a5 a6 : Nat → Int32} {c d : Nat} (k : sr_ok c d a1 a2) (hr : f3 = 0 ∨ (f3 = 1 ∧ sr_P c d 2240 a6)) (H : ∀ a, sr_P c d 2240 a → post (nI (sr_sm (fun k => sr_wy c d k 256) 7)) (nI c, f1, f2, 1, a1, a2, a3, a4, a5, a)) : wpX_total post (nI c, f1, f2, f3, a1, a2, a3, a4, a5, a6) := by
  unfold wpX_total
  dsimp only
  refine sr_prep k hr (fun a T => ?_)
  refine pk_loop (σ := Unit) (fun m i _ => wX_total_8 post (nI c) f1 f2 1 a1 a2 a3 a4 a5 a m (nI (sr_sm (fun k => sr_wy c d k 256) i)) (nI i)) (fun _ _ => True) 7 0 () (by omega) trivial ?_ ?_
  · intro m _ _
    exact pk_lt 6 7 (fun _ => H a T) (fun z => absurd z (by omega))
  · intro m i _ hi _ hw
    refine pk_lt 6 i (fun z => absurd z (by omega)) (fun _ => ⟨pk_in (i * 320 + 256) 2240 (by omega) (sr_ix i 256), nm_r (e' := nI (sr_sm (fun k => sr_wy c d k 256) (i + 1))) ?_ (nm_r (nI_1 i) (hw () trivial))⟩)
    rw [sr_at T (s := 256) (x := 256) (by omega) (by omega) rfl, nI_add]
    rfl
theorem sr_fails {post : Int32 → Prop} {f2 f3 : Int32} {a1 a2 a3 a4 a5 a6 : Nat → Int32} {c d n : Nat} {g : Nat → Nat} (k : sr_ok c d a1 a2) (q : sr_sg g n a4) (H : post (nI (sr_ac c (sr_st c d g n)))) : wpX_fails post (nI c, nI n, f2, f3, a1, a2, a3, a4, a5, a6) := by
  unfold wpX_fails
  dsimp only
  have L := sr_st_lt (c := c) (d := d) (fun i hi => (q.2 i hi).1) n (Nat.le_refl n)
  refine sr_stage k q (sr_acc k L ⟨?_, H⟩)
  rcases sr_ac01 c (sr_st c d g n) with e | e
  · rw [e]
    rfl
  · rw [e]
    rfl
theorem sr_fof {post : Int32 → St2 → Prop} {f1 f2 f3 : Int32} {a1 a2 a3 a4 a5 a6 : Nat → Int32} {c d j : Nat} (k : sr_ok c d a1 a2) (hr : f3 = 0 ∨ (f3 = 1 ∧ sr_P c d 2240 a6)) (hj : j ≤ 6) (H : ∀ a, sr_P c d 2240 a → post (nI (sr_wy c d j 256)) (nI c, f1, f2, 1, a1, a2, a3, a4, a5, a)) : wpX_failingOf post (nI c, f1, f2, f3, a1, a2, a3, a4, a5, a6) (nI j) := by
  unfold wpX_failingOf
  dsimp only
  refine pk_lt j 0 (fun z => absurd z (by omega)) (fun _ => pk_le j 6 (fun _ => sr_prep k hr (fun a T => ?_)) (fun z => absurd z (by omega)))
  have e := sr_at T (s := 256) (x := 256) hj (by omega) rfl
  refine ⟨pk_in (j * 320 + 256) 2240 (by omega) (sr_ix j 256), ?_⟩
  show post (a (nI j * 320 + 256).toNatClampNeg) (nI c, f1, f2, 1, a1, a2, a3, a4, a5, a)
  rw [e]
  exact H a T
theorem sr_push {post : Int32 → St2 → Prop} {f0 f2 f3 : Int32} {a1 a2 a3 a4 a5 a6 : Nat → Int32} {n x : Nat} (hn : n < 6) (hx : x < 4) (H : post (nI (n + 1)) (f0, nI (n + 1), f2, f3, a1, a2, a3, upd a4 n (nI x), a5, a6)) : wpX_push post (f0, nI n, f2, f3, a1, a2, a3, a4, a5, a6) (nI x) := by
  unfold wpX_push
  dsimp only
  exact pk_lt x 0 (fun z => absurd z (by omega)) (fun _ => pk_le x 3 (fun _ => pk_lt n 6 (fun _ => ⟨pk_in n 6 hn, nm_r (e' := upd a4 n (nI x)) (by rw [nI_clamp (by omega)]) (nm_r (nI_1 n) H)⟩) (fun z => absurd z (by omega))) (fun z => absurd z (by omega)))
theorem sr_cond {post : Int32 → St2 → Prop} {f1 f2 f3 : Int32} {a1 a2 a3 a4 a5 a6 : Nat → Int32} {m e : Nat} (hm : m < 3) (he : e < 4) (H : post (nI (m + 1)) (nI (m + 1), f1, f2, 0, upd a1 m 5, upd a2 m (nI e), upd a3 m 0, a4, a5, a6)) : wpX_condition post (nI m, f1, f2, f3, a1, a2, a3, a4, a5, a6) 5 (nI e) 0 := by
  unfold wpX_condition
  dsimp only
  refine br_f (by decide) (br_t (by decide) ?_)
  unfold wpX_goodNumbers
  refine br_f (by decide) (br_f (by decide) (br_f (by decide) (br_f (by decide) (br_f (by decide) (br_f (by decide) (br_f (by decide) (br_t rfl ?_)))))))
  unfold wX_goodNumbers_150 wpX_in
  refine pk_lt e 0 (fun z => absurd z (by omega)) (fun _ => pk_lt 3 e (fun z => absurd z (by omega)) (fun _ => ⟨rfl, ?_⟩))
  refine br_f (by decide) (pk_lt m 3 (fun _ => ?_) (fun z => absurd z (by omega)))
  have c : (nI m).toNatClampNeg = m := nI_clamp (by omega)
  exact ⟨pk_in m 3 hm, nm_r (by rw [c]) ⟨pk_in m 3 hm, nm_r (by rw [c]) ⟨pk_in m 3 hm, nm_r (by rw [c]) (nm_r (nI_1 m) H)⟩⟩⟩
end
section
theorem sr_j0 : ((1 : Int32) - 0) - 1 = nI 0 := by decide
theorem sr_131 {post : Int32 → St2 → Prop} {J : Int32 → Int32 → Int32 → (Nat → Int32) → (Nat → Int32) → (Nat → Int32) → (Nat → Int32) → (Nat → Int32) → (Nat → Int32) → Prop} {f1 f2 f3 : Int32} {a1 a2 a3 a4 a5 a6 : Nat → Int32} {d : Nat} (k : sr_ok 1 d a1 a2) (T : sr_P 1 d 2240 a6) (H : J 0 (nI (sr_nx 1 d 256 d)) 1 a1 a2 a3 a4 (upd a5 0 (nI d)) a6) : wX_find_131 post J 0 1 256 0 (nI d) (nI 1) f1 f2 f3 a1 a2 a3 a4 a5 a6 := by
  have hd := k.2.1
  unfold wX_find_131
  rw [sr_j0]
  refine sr_sum (j := 0) (s := 256) k (by omega) (by omega) (by omega) (fun t ht => sr_get T (by omega) (by omega)) ?_
  rw [sr_fLo d hd d (Nat.le_refl d)]
  exact nm_r (e' := 0) (by decide) ⟨pk_in 0 6 (by omega), nm_r (e' := upd a5 0 (nI d)) (by rw [sb_cl0]) (sr_next (s := 256) k (by omega) hd (nm_r (e' := 1) (by decide) H))⟩
theorem sr_98 {post : Int32 → St2 → Prop} {J : Int32 → Int32 → Int32 → (Nat → Int32) → (Nat → Int32) → (Nat → Int32) → (Nat → Int32) → (Nat → Int32) → (Nat → Int32) → Prop} {f1 f2 f3 : Int32} {a1 a2 a3 a4 a5 a6 : Nat → Int32} {d : Nat} (k : sr_ok 1 d a1 a2) (T : sr_P 1 d 2240 a6) (H : wX_find_131 post J 0 1 256 0 (nI d) (nI 1) f1 f2 f3 a1 a2 a3 a4 a5 a6) : ∃ m, wX_find_98 post J 0 1 256 0 (nI 1) f1 f2 f3 a1 a2 a3 a4 a5 a6 m 0 := by
  have hd := k.2.1
  refine pk_loop (σ := Unit) (fun m i _ => wX_find_98 post J 0 1 256 0 (nI 1) f1 f2 f3 a1 a2 a3 a4 a5 a6 m (nI i)) (fun _ _ => True) d 0 () (by omega) trivial ?_ ?_
  · intro m _ _
    refine pk_le 3 d (fun _ => H) (fun _ => ?_)
    rw [sr_j0, nI_1]
    refine sr_sum (j := 0) (s := 256) (t := d + 1) k (by omega) (by omega) (by omega) (fun t ht => sr_get T (by omega) (by omega)) ?_
    rw [sr_fHi d hd]
    exact br_t (by decide) H
  · intro m i _ hi _ hw
    refine pk_le 3 i (fun z => absurd z (by omega)) (fun _ => ?_)
    rw [sr_j0, nI_1]
    refine sr_sum (j := 0) (s := 256) (t := i + 1) k (by omega) (by omega) (by omega) (fun t ht => sr_get T (by omega) (by omega)) ?_
    rw [sr_fLo d hd (i + 1) (by omega)]
    exact br_f (by decide) (nm_r (e' := nI (i + 1)) (by first | exact nI_1 i | rfl) (hw () trivial))
theorem sr_85 {post : Int32 → St2 → Prop} {f1 f2 f3 : Int32} {a1 a2 a3 a4 a5 a6 : Nat → Int32} {d : Nat} (k : sr_ok 1 d a1 a2) (T : sr_P 1 d 2240 a6) (H : post 1 (nI 1, f1, f2, f3, a1, a2, a3, a4, upd a5 0 (nI d), a6)) : ∃ m, wX_find_85 post 1 (nI 1) f1 f2 f3 m 0 256 0 a1 a2 a3 a4 a5 a6 :=
  ⟨0 + 1 + 1, pk_le 1 0 (fun z => absurd z (by omega)) (fun _ => sr_98 k T (sr_131 k T (pk_le 1 1 (fun _ => H) (fun z => absurd z (by omega)))))⟩
theorem sr_21 {post : Int32 → St2 → Prop} {f1 f2 f3 : Int32} {a1 a2 a3 a4 a5 a6 : Nat → Int32} {d : Nat} (k : sr_ok 1 d a1 a2) (T : sr_P 1 d 2240 a6) (H : post 1 (nI 1, f1, 1, f3, a1, a2, a3, a4, upd a5 0 (nI d), a6)) : ∃ m, wX_find_21 post (nI 1) f1 f2 f3 a1 a2 a3 a4 a5 a6 m 0 0 := by
  have hd := k.2.1
  have e0 : a6 ((0 : Int32) * 320 + 256).toNatClampNeg = nI (sr_wy 1 d 0 256) := sr_at (j := 0) T (by omega) (by omega) rfl
  have e1 : a6 ((1 : Int32) * 320 + 256).toNatClampNeg = nI (sr_wy 1 d 1 256) := sr_at (j := 1) T (by omega) (by omega) rfl
  have w0 : sr_wy 1 d 0 256 = 0 := by simp [sr_wy, sr_ac]
  have w1 : sr_wy 1 d 1 256 = 4 - d := by simp [sr_wy]
  rw [w0] at e0
  rw [w1] at e1
  refine ⟨0 + 1 + 1, pk_le 6 0 (fun z => absurd z (by omega)) (fun _ => ⟨pk_in 256 2240 (by omega) (by decide), ?_⟩)⟩
  rw [e0]
  refine br_f (by decide) ⟨pk_in 256 2240 (by omega) (by decide), nm_r (e' := 0) (by decide) (nm_r (e' := 1) (by decide) ?_)⟩
  refine pk_le 6 1 (fun z => absurd z (by omega)) (fun _ => ⟨pk_in 576 2240 (by omega) (by decide), ?_⟩)
  rw [e1]
  exact pk_lt 0 (4 - d) (fun _ => sr_85 k T H) (fun z => absurd z (by omega))
theorem sr_find {post : Int32 → St2 → Prop} {f1 f2 f3 : Int32} {a1 a2 a3 a4 a5 a6 : Nat → Int32} {d : Nat} (k : sr_ok 1 d a1 a2) (hr : f3 = 0 ∨ (f3 = 1 ∧ sr_P 1 d 2240 a6)) (H : ∀ a, sr_P 1 d 2240 a → post 1 (nI 1, f1, 1, 1, a1, a2, a3, a4, upd a5 0 (nI d), a)) : wpX_find post (nI 1, f1, f2, f3, a1, a2, a3, a4, a5, a6) 0 := by
  unfold wpX_find
  dsimp only
  refine sr_tot k hr (fun a T => ?_)
  have t := sr_fTot d k.2.1
  exact pk_lt 0 0 (fun z => absurd z (by omega)) (fun _ => pk_lt 0 (sr_sm (fun k => sr_wy 1 d k 256) 7) (fun _ => sr_21 k T (H a T)) (fun z => absurd z (by omega)))
theorem sr_least {post : Int32 → St2 → Prop} {f1 f2 f3 : Int32} {a1 a2 a3 a4 a5 a6 : Nat → Int32} {d : Nat} (k : sr_ok 1 d a1 a2) (hr : f3 = 0 ∨ (f3 = 1 ∧ sr_P 1 d 2240 a6)) (H : ∀ a, sr_P 1 d 2240 a → post (nI d) (nI 1, f1, 1, 1, a1, a2, a3, a4, upd a5 0 (nI d), a)) : wpX_least post (nI 1, f1, f2, f3, a1, a2, a3, a4, a5, a6) 0 := by
  unfold wpX_least
  dsimp only
  refine sr_find k hr (fun a T => ?_)
  refine br_f (by decide) (pk_lt 0 0 (fun z => absurd z (by omega)) (fun _ => pk_lt 0 1 (fun _ => ⟨pk_in 0 6 (by omega), ?_⟩) (fun z => absurd z (by omega))))
  have e : upd a5 0 (nI d) (0 : Int32).toNatClampNeg = nI d := by rw [sb_cl0, pk_us]
  show post (upd a5 0 (nI d) (0 : Int32).toNatClampNeg) (nI 1, f1, 1, 1, a1, a2, a3, a4, upd a5 0 (nI d), a)
  rw [e]
  exact H a T
theorem sr_len {post : Int32 → St2 → Prop} {f1 f2 f3 : Int32} {a1 a2 a3 a4 a5 a6 : Nat → Int32} {d : Nat} (k : sr_ok 1 d a1 a2) (hr : f3 = 0 ∨ (f3 = 1 ∧ sr_P 1 d 2240 a6)) (H : ∀ a, sr_P 1 d 2240 a → post 1 (nI 1, f1, 1, 1, a1, a2, a3, a4, upd a5 0 (nI d), a)) : wpX_leastLength post (nI 1, f1, f2, f3, a1, a2, a3, a4, a5, a6) := by
  unfold wpX_leastLength
  dsimp only
  refine sr_find k hr (fun a T => ?_)
  exact br_f (by decide) (H a T)
end
section
theorem sr_122 {post : Int32 → St0 → Prop} {mc ms kc ks : Nat} {x8 r f2 f3 : Int32} {a1 a2 a3 a4 a5 a6 : Nat → Int32} {d : Nat} {g : Nat → Nat} (HP : post 1 ()) (k : sr_ok 1 d a1 a2) (q : sr_sg g 3 a4) (hr : f3 = 0 ∨ (f3 = 1 ∧ sr_P 1 d 2240 a6)) (hx : nI (sr_ex 1 d g 3) = x8) : wL_lawOf_122 post mc ms (nI d) x8 r r kc ks (nI 1) (nI 3) f2 f3 a1 a2 a3 a4 a5 a6 := by
  unfold wL_lawOf_122
  refine br_t rfl (sr_ext k q hr (fun a T => ?_))
  refine br_t hx (sr_fof (j := 1) k (Or.inr ⟨rfl, T⟩) (by omega) (fun a T => ?_))
  refine br_t (sr_fOf d k.2.1) (sr_least k (Or.inr ⟨rfl, T⟩) (fun a T => ?_))
  refine br_t rfl (sr_len k (Or.inr ⟨rfl, T⟩) (fun a T => ?_))
  exact br_t rfl HP
theorem sr_q3 {a b e : Nat} (ha : a < 4) (hb : b < 4) (he : e < 4) : sr_sg (sr_g a b e) 3 (upd (upd (upd (fun _ => 0) 0 (nI a)) 1 (nI b)) 2 (nI e)) := by
  refine ⟨by omega, fun i hi => ⟨sr_g_lt ha hb he i, ?_⟩⟩
  rcases (show i = 0 ∨ i = 1 ∨ i = 2 by omega) with rfl | rfl | rfl
  · rw [pk_un (by omega), pk_un (by omega), pk_us]
    rfl
  · rw [pk_un (by omega), pk_us]
    rfl
  · rw [pk_us]
    rfl
theorem sr_104 {post : Int32 → St0 → Prop} {mc ms kc ks : Nat} {z0 f2 : Int32} {a1 a2 a3 a4 a5 a6 : Nat → Int32} {a b e : Nat} (HP : post 1 ()) (ha : a < 4) (hb : b < 4) (he : e < 4) (k : sr_ok 1 e a1 a2) (q : sr_sg (sr_g a b e) 3 a4) (hz : z0 = if a < e then 0 else 85) : wL_lawOf_104 post mc ms (nI a) (nI e) z0 kc ks (nI 1) (nI 3) f2 0 a1 a2 a3 a4 a5 a6 := by
  have hx : nI (sr_ex 1 e (sr_g a b e) 3) = z0 := (sr_fExt1 a ha b hb e he).trans hz.symm
  have hf := sr_fFails a ha b hb e he
  unfold wL_lawOf_104
  refine sr_fails (c := 1) (n := 3) k q ?_
  rw [hf]
  by_cases z : a < e
  · rw [if_pos z]
    exact br_t (nI_lt z (by omega)) (sr_122 HP k q (Or.inl rfl) hx)
  · rw [if_neg z]
    exact br_f (nI_nlt (by omega) (by omega)) (sr_122 HP k q (Or.inl rfl) hx)
theorem sr_lawOf {post : Int32 → St0 → Prop} {x y z : Int32} (HP : post 1 ()) : wpL_lawOf post 1152 18416 () x y z := by
  obtain ⟨a, ha, ea⟩ := pk_andE x (m := 3) 2 (by decide)
  obtain ⟨b, hb, eb⟩ := pk_andE y (m := 3) 2 (by decide)
  obtain ⟨e, he, ee⟩ := pk_andE z (m := 3) 2 (by decide)
  have q := sr_q3 ha hb he
  have k0 : sr_ok 0 0 (fun _ => 0) (fun _ => 0) := ⟨by omega, by omega, fun z => absurd z (by decide)⟩
  have k1 : sr_ok 1 e (upd (fun _ => 0) 0 5) (upd (fun _ => 0) 0 (nI e)) := ⟨by omega, he, fun _ => ⟨pk_us, pk_us⟩⟩
  unfold wpL_lawOf
  refine ⟨by omega, by omega, 100, 10000, by omega, by omega, ?_⟩
  unfold wpX_init
  dsimp only
  refine ⟨by omega, by omega, by omega, by omega, by omega, by omega, by omega, by omega, by omega, by omega, by omega, by omega, ?_⟩
  refine nm_r ea (nm_r eb (nm_r ee ?_))
  refine sr_push (n := 0) (by omega) ha ?_
  dsimp only
  refine sr_push (n := 1) (by omega) hb ?_
  dsimp only
  refine sr_push (n := 2) (by omega) he ?_
  dsimp only
  refine nm_e ?_
  refine sr_rank (c := 0) (d := 0) (n := 3) k0 q (Or.inl rfl) (fun t T => ?_)
  dsimp only
  refine br_t (sr_fRank a ha b hb e he) ?_
  refine sr_ext (c := 0) (d := 0) (n := 3) k0 q (Or.inr ⟨rfl, T⟩) (fun t T => ?_)
  dsimp only
  refine br_t (sr_fExt0 a ha b hb e he) ?_
  refine sr_cond (m := 0) (by omega) he ?_
  dsimp only
  exact pk_lt a e (fun z => sr_104 HP ha hb he k1 q (if_pos z).symm) (fun z => sr_104 HP ha hb he k1 q (if_neg (by omega)).symm)
theorem sr_cell {post : Int32 → Prop} {xs : Nat → Int32} {L : Nat} (hL : L ≤ 3) (i : Nat) (hi : i ≤ 2) (H : ∀ x, post x) : wpL_cellAt post L xs () (nI i) :=
  pk_le L i (fun _ => H 0) (fun z => ⟨pk_in i L z, H _⟩)
theorem i_vc (xs : Nat → Int32) (L : Nat) (hL : L ≤ 3) : wpL_law (fun r => r = 1) L xs := by
  unfold wpL_law
  exact sr_cell hL 0 (by omega) (fun x => sr_cell hL 1 (by omega) (fun y => sr_cell hL 2 (by omega) (fun z => ⟨1152, 18416, by omega, by omega, sr_lawOf rfl⟩)))
end
