section
/-- e at process P, 0 elsewhere (P = 3: nowhere); with e = 1: the last state of process q -/
def cw_d (P e q : Nat) : Nat := if q = P then e else 0
/-- what state s of process q knows of process r -/
def cw_o (q s r : Nat) : Nat := if r = q then s else 0
/-- 1 if state s of process q is good -/
def cw_g (P t q s : Nat) : Nat := if q = P then (if s = 0 then t else 1 - t) else 0
/-- the first good state of process q (1 where it has none: that is past its last) -/
def cw_v (P t q : Nat) : Nat := if q = P then 1 - t else 1
/-- process p is not in the set x -/
abbrev cw_b (x : Int32) (p : Nat) : Prop := (((x.toUInt32 >>> ((nI p).toUInt32 &&& Int32.toUInt32 31)).toInt32) &&& 1) = 0
/-- the picture: process P has made one event; its first state is good if t = 1, its second one if t = 0; no other state is good -/
def cw_K (P t : Nat) (a1 a2 a3 : Nat → Int32) : Prop :=
  t ≤ 1 ∧ (∀ q, q < 3 → a1 q = nI (cw_d P 1 q)) ∧ (∀ q s, q < 3 → s ≤ cw_d P 1 q → a2 (9 * q + s) = nI (cw_g P t q s)) ∧
    (∀ q s r, q < 3 → r < 3 → s ≤ cw_d P 1 q → a3 (27 * q + 3 * s + r) = nI (cw_o q s r))
theorem cw_d_P (P e : Nat) : cw_d P e P = e := if_pos rfl
theorem cw_d_n {P q : Nat} (e : Nat) (h : q ≠ P) : cw_d P e q = 0 := if_neg h
theorem cw_d_0 (P q : Nat) : cw_d P 0 q = 0 := by
  unfold cw_d; split <;> rfl
theorem cw_d_le (P q : Nat) {e f : Nat} (h : e ≤ f) : cw_d P e q ≤ cw_d P f q := by
  unfold cw_d; split <;> omega
theorem cw_d_1 (P q : Nat) : cw_d P 1 q ≤ 1 := by
  unfold cw_d; split <;> omega
theorem cw_o_le (P e q p : Nat) : cw_o q (cw_d P e q) p ≤ cw_d P e p := by
  unfold cw_o; split
  · next h => rw [h]; exact Nat.le_refl _
  · omega
theorem cw_i27 (q s r : Nat) : ((27 : Int32) * nI q + 3 * nI s) + nI r = nI (27 * q + 3 * s + r) := by
  rw [show (27 : Int32) = nI 27 from rfl, show (3 : Int32) = nI 3 from rfl, pk_mul, pk_mul, nI_add, nI_add]
theorem cw_i9 (q s : Nat) : (9 : Int32) * nI q + nI s = nI (9 * q + s) := by
  rw [show (9 : Int32) = nI 9 from rfl, pk_mul, nI_add]
theorem cw_a1 {P t q : Nat} {a1 a2 a3 : Nat → Int32} (K : cw_K P t a1 a2 a3) (hq : q < 3) : a1 (nI q).toNatClampNeg = nI (cw_d P 1 q) := by
  rw [nI_clamp (by omega)]; exact K.2.1 q hq
theorem cw_a2 {P t q s : Nat} {a1 a2 a3 : Nat → Int32} (K : cw_K P t a1 a2 a3) (hq : q < 3) (hs : s ≤ cw_d P 1 q) : a2 ((9 : Int32) * nI q + nI s).toNatClampNeg = nI (cw_g P t q s) := by
  have := cw_d_1 P q
  rw [cw_i9, nI_clamp (by omega)]; exact K.2.2.1 q s hq hs
theorem cw_in9 {q s : Nat} (hq : q < 3) (hs : s ≤ 1) : vp_in ((9 : Int32) * nI q + nI s) 27 := pk_in (9 * q + s) 27 (by omega) (cw_i9 q s)
theorem cw_tabA : ∀ P, P < 3 → ∀ n, n < 8 → nI n = (1 : Int32) <<< (nI P &&& 31) → (∀ p, p < 3 → p ≠ P → cw_b (nI n) p) := by
  intro P hP
  rcases (show P = 0 ∨ P = 1 ∨ P = 2 by omega) with rfl | rfl | rfl <;> clear hP <;> decide +kernel
theorem cw_tabO : ∀ P, P < 3 → ∀ n, n < 8 → nI n = (1 : Int32) <<< (nI P &&& 31) → ¬ cw_b (nI n) P := by decide +kernel
theorem cw_tabB : ∀ P, P < 3 → ∀ n, n < 8 → 0 < n → ¬ nI n = (1 : Int32) <<< (nI P &&& 31) → ∃ p, p < 3 ∧ p ≠ P ∧ ¬ cw_b (nI n) p := by
  intro P hP
  rcases (show P = 0 ∨ P = 1 ∨ P = 2 by omega) with rfl | rfl | rfl <;> clear hP <;> decide +kernel
theorem cw_tab3 : ∀ n, n < 8 → 0 < n → ∃ p, p < 3 ∧ p ≠ 3 ∧ ¬ cw_b (nI n) p := by decide +kernel
theorem cw_pow : ∀ P, P < 3 → ¬ (1 : Int32) <<< (nI P &&& 31) < 1 ∧ ¬ 7 < (1 : Int32) <<< (nI P &&& 31) := by decide +kernel
theorem cw_rng {x : Int32} (h1 : ¬ x < 1) (h7 : ¬ 7 < x) : ∃ n : Nat, n < 8 ∧ 0 < n ∧ x = nI n := by
  have h0 : ¬ x < 0 := fun z => h1 (Int32.lt_trans z (by decide))
  obtain ⟨j, hj, rfl⟩ := nI_of2 (M := 7) (n := 7) rfl h0 (Int32.not_lt.mp h7)
  refine ⟨j, by omega, ?_, rfl⟩
  rcases Nat.eq_zero_or_pos j with z | z
  · exact absurd (by rw [z]; decide) h1
  · exact z
end
section
section
variable {post : Int32 → Prop} {m : Int32} {a1 a2 a3 a4 a5 a6 a7 a8 a9 : Nat → Int32} {P t : Nat}
theorem cw_kb (K : cw_K P t a1 a2 a3) {x y z : Int32} (q s r : Nat) (hq : q < 3) (hr : r < 3) (hs : s ≤ cw_d P 1 q) (hp : post (nI (cw_o q s r))) (hx : x = nI q := by rfl) (hy : y = nI s := by rfl) (hz : z = nI r := by rfl) :
    wpX_knownBy post (m, a1, a2, a3, a4, a5, a6, a7, a8, a9) x y z := by
  subst hx hy hz
  have h1 : s ≤ 1 := Nat.le_trans hs (cw_d_1 P q)
  unfold wpX_knownBy
  dsimp only
  rw [cw_i27, nI_clamp (by omega), K.2.2.2 q s r hq hr hs]
  exact ⟨vp_in_nI (by omega) (by omega), hp⟩
theorem cw_t38 (K : cw_K P t a1 a2 a3) {i j : Nat} (hi : i ≤ 1) (hj : j ≤ 1) (hp : post (nI (cw_d P 1 2 + 1))) :
    ∃ n, wX_thirdStates_38 post (nI i) (nI j) m a1 a2 a3 a4 a5 a6 a7 a8 a9 n 0 0 := by
  have hd := cw_d_1 P 2
  exact pk_loop (σ := Unit) (fun n k _ => wX_thirdStates_38 post (nI i) (nI j) m a1 a2 a3 a4 a5 a6 a7 a8 a9 n (nI k) (nI k)) (fun _ _ => True) (cw_d P 1 2 + 1) 0 () (by omega) trivial
    (fun n _ _ => pk_lt (cw_d P 1 2) (cw_d P 1 2 + 1) (fun _ => hp) (fun z => absurd z (by omega)) (K.2.1 2 (by omega)))
    (fun n k _ hk _ hw => pk_lt (cw_d P 1 2) k (fun z => absurd z (by omega)) (fun z => cw_kb K 2 k 0 (by omega) (by omega) z
      (pk_lt i 0 (fun z => absurd z (by omega)) (fun _ => cw_kb K 2 k 1 (by omega) (by omega) z
        (pk_lt j 0 (fun z => absurd z (by omega)) (fun _ => nm_r (nI_1 k) (nm_r (nI_1 k) (hw () trivial))))))) (K.2.1 2 (by omega)))
theorem cw_third (K : cw_K P t a1 a2 a3) {i j : Nat} (hi : i ≤ cw_d P 1 0) (hj : j ≤ cw_d P 1 1) (hp : post (nI (cw_d P 1 2 + 1))) :
    wpX_thirdStates post (m, a1, a2, a3, a4, a5, a6, a7, a8, a9) (nI i) (nI j) := by
  have h0 := cw_d_1 P 0
  have h1 := cw_d_1 P 1
  unfold wpX_thirdStates
  dsimp only
  refine cw_kb K 0 i 2 (by omega) (by omega) hi ?_
  refine cw_kb K 1 j 2 (by omega) (by omega) hj ?_
  exact pk_le 0 0 (fun _ => cw_t38 K (by omega) (by omega) hp) (fun z => absurd z (by omega))
theorem cw_c16 {J : Int32 → Int32 → Prop} (K : cw_K P t a1 a2 a3) {i A : Nat} (hi : i ≤ cw_d P 1 0) (hJ : J (nI (A + (cw_d P 1 2 + 1) * (cw_d P 1 1 + 1))) (nI (i + 1))) :
    ∃ n, wX_cuts_16 post J (nI i) m a1 a2 a3 a4 a5 a6 a7 a8 a9 n (nI A) 0 := by
  have h0 := cw_d_1 P 0
  have h1 := cw_d_1 P 1
  exact pk_loop (σ := Unit) (fun n j _ => wX_cuts_16 post J (nI i) m a1 a2 a3 a4 a5 a6 a7 a8 a9 n (nI (A + (cw_d P 1 2 + 1) * j)) (nI j)) (fun _ _ => True) (cw_d P 1 1 + 1) 0 () (by omega) trivial
    (fun n _ _ => pk_lt (cw_d P 1 1) (cw_d P 1 1 + 1) (fun _ => nm_r (nI_1 i) hJ) (fun z => absurd z (by omega)) (K.2.1 1 (by omega)))
    (fun n j _ hj _ hw => pk_lt (cw_d P 1 1) j (fun z => absurd z (by omega)) (fun z => cw_kb K 0 i 1 (by omega) (by omega) hi
      (pk_lt j 0 (fun z => absurd z (by omega)) (fun _ => cw_kb K 1 j 0 (by omega) (by omega) z
        (pk_lt i 0 (fun z => absurd z (by omega)) (fun _ => cw_third K hi z
          (nm_r (by rw [nI_add, Nat.mul_succ, Nat.add_assoc]) (nm_r (nI_1 j) (hw () trivial)))))))) (K.2.1 1 (by omega)))
theorem cw_c4 (K : cw_K P t a1 a2 a3) (hp : post (nI ((cw_d P 1 2 + 1) * (cw_d P 1 1 + 1) * (cw_d P 1 0 + 1)))) :
    wpX_cuts post (m, a1, a2, a3, a4, a5, a6, a7, a8, a9) := by
  have h0 := cw_d_1 P 0
  unfold wpX_cuts
  dsimp only
  exact pk_loop (σ := Unit) (fun n i _ => wX_cuts_4 post m a1 a2 a3 a4 a5 a6 a7 a8 a9 n (nI ((cw_d P 1 2 + 1) * (cw_d P 1 1 + 1) * i)) (nI i)) (fun _ _ => True) (cw_d P 1 0 + 1) 0 () (by omega) trivial
    (fun n _ _ => pk_lt (cw_d P 1 0) (cw_d P 1 0 + 1) (fun _ => hp) (fun z => absurd z (by omega)) (K.2.1 0 (by omega)))
    (fun n i _ hi _ hw => pk_lt (cw_d P 1 0) i (fun z => absurd z (by omega)) (fun z => cw_c16 K z (hw () trivial)) (K.2.1 0 (by omega)))
theorem cw_cutsY (K : cw_K P t a1 a2 a3) (hP : P < 3) (hp : post 2) : wpX_cuts post (m, a1, a2, a3, a4, a5, a6, a7, a8, a9) := by
  refine cw_c4 K ?_
  rcases (show P = 0 ∨ P = 1 ∨ P = 2 by omega) with rfl | rfl | rfl <;> exact hp
theorem cw_cutsN (K : cw_K 3 t a1 a2 a3) (hp : post 1) : wpX_cuts post (m, a1, a2, a3, a4, a5, a6, a7, a8, a9) := cw_c4 K hp
end
end
section
section
variable {m x : Int32} {a1 a2 a3 a4 a5 a6 a7 a8 a9 : Nat → Int32} {P t e : Nat}
/-- one turn of the search for a good state -/
theorem cw_n51s {post : Int32 → Prop} (K : cw_K P t a1 a2 a3) {p k n : Nat} (hp : p < 3) (hk : k ≤ cw_d P 1 p) (hb : ¬ cw_b x p) (H : cw_g P t p k ≠ 0 → post (nI k))
    (H' : cw_g P t p k = 0 → wX_neededState_51 post (nI p) x m a1 a2 a3 a4 a5 a6 a7 a8 a9 n (nI (k + 1))) (hg : cw_g P t p k ≤ 1) :
    wX_neededState_51 post (nI p) x m a1 a2 a3 a4 a5 a6 a7 a8 a9 (n + 1) (nI k) := by
  have h1 := cw_d_1 P p
  exact ⟨pk_in p 3 hp, pk_lt (cw_d P 1 p) k (fun z => absurd z (by omega)) (fun _ => br_f hb ⟨cw_in9 hp (by omega), pk_eq (cw_g P t p k) 0 (fun z => nm_r (nI_1 k) (H' z)) H (cw_a2 K hp hk)⟩) (cw_a1 K hp)⟩
theorem cw_n51x {post : Int32 → Prop} (K : cw_K P t a1 a2 a3) {p k n : Nat} (hp : p < 3) (hk : cw_d P 1 p < k) (hk2 : k ≤ 2) (H : post (nI k)) :
    wX_neededState_51 post (nI p) x m a1 a2 a3 a4 a5 a6 a7 a8 a9 (n + 1) (nI k) :=
  ⟨pk_in p 3 hp, pk_lt (cw_d P 1 p) k (fun _ => H) (fun z => absurd z (by omega)) (cw_a1 K hp) rfl (by omega) (by omega)⟩
theorem cw_n51 {post : Int32 → Prop} (K : cw_K P t a1 a2 a3) {p k : Nat} (hp : p < 3) (hk : k = 0 ∨ (p = P ∧ t = 0 ∧ k = 1)) (H0 : cw_b x p → post (nI k)) (H1 : ¬ cw_b x p → post (nI (cw_v P t p))) :
    ∃ n, wX_neededState_51 post (nI p) x m a1 a2 a3 a4 a5 a6 a7 a8 a9 n (nI k) := by
  have h1 := cw_d_1 P p
  have hkc : k ≤ cw_d P 1 p := by
    rcases hk with z | ⟨z, _, z2⟩
    · omega
    · rw [z, cw_d_P]; omega
  by_cases hb : cw_b x p
  · exact ⟨1, pk_in p 3 hp, pk_lt (cw_d P 1 p) k (fun z => absurd z (by omega)) (fun _ => br_t hb (H0 hb)) (cw_a1 K hp)⟩
  · have H := H1 hb
    refine ⟨3, ?_⟩
    by_cases e : p = P
    · subst e
      rw [show cw_v p t p = 1 - t from if_pos rfl] at H
      have ht := K.1
      have G0 : cw_g p t p 0 = t := by rw [cw_g, if_pos rfl, if_pos rfl]
      have G1 : cw_g p t p 1 = 1 - t := by rw [cw_g, if_pos rfl, if_neg (by omega)]
      have D := cw_d_P p 1
      rcases hk with rfl | ⟨_, rfl, rfl⟩
      · refine cw_n51s K (k := 0) hp (by omega) hb (fun z => ?_) (fun z => ?_) (by omega)
        · rw [show 1 - t = 0 by omega] at H
          exact H
        · rw [show 1 - t = 1 by omega] at H
          exact cw_n51s K (k := 1) hp (by omega) hb (fun _ => H) (fun z2 => absurd z2 (by omega)) (by omega)
      · exact cw_n51s K (k := 1) hp (by omega) hb (fun _ => H) (fun z2 => absurd z2 (by omega)) (by omega)
    · rw [show cw_v P t p = 1 from if_neg e] at H
      have D := cw_d_n 1 e
      have G0 : cw_g P t p 0 = 0 := if_neg e
      rcases hk with rfl | ⟨z, _, _⟩
      · exact cw_n51s K (k := 0) hp (by omega) hb (fun z => absurd G0 z) (fun _ => cw_n51x K (k := 1) hp (by omega) (by omega) H) (by omega)
      · exact absurd z e
theorem cw_need {post : Int32 → Prop} (K : cw_K P t a1 a2 a3) (he : e ≤ 1 - t) (hA : ∀ q, q < 3 → a7 q = nI (cw_d P e q)) {p : Nat} (hp : p < 3) (H0 : cw_b x p → post (nI (cw_d P e p))) (H1 : ¬ cw_b x p → post (nI (cw_v P t p))) :
    wpX_neededState post (m, a1, a2, a3, a4, a5, a6, a7, a8, a9) (nI p) x := by
  have hA' : ∀ q, q < 3 → a7 (nI q).toNatClampNeg = nI (cw_d P e q) := fun q hq => by rw [nI_clamp (by omega)]; exact hA q hq
  have hk : cw_d P e p = 0 ∨ (p = P ∧ t = 0 ∧ cw_d P e p = 1) := by
    by_cases z : p = P
    · rw [z, cw_d_P]
      have := K.1
      rcases (show e = 0 ∨ (t = 0 ∧ e = 1) by omega) with y | y
      · exact Or.inl y
      · exact Or.inr ⟨rfl, y⟩
    · exact Or.inl (cw_d_n e z)
  have hle : ∀ q, cw_d P e q ≤ cw_d P 1 q := fun q => cw_d_le P q (by omega)
  have hle1 := fun q => cw_d_1 P q
  unfold wpX_neededState
  dsimp only
  refine ⟨pk_in p 3 hp, nm_r (hA' p hp) ?_⟩
  exact pk_loop (σ := Unit) (fun n q _ => wX_neededState_10 post (nI p) x m a1 a2 a3 a4 a5 a6 a7 a8 a9 n (nI (cw_d P e p)) (nI q)) (fun _ _ => True) 3 0 () (by omega) trivial
    (fun n _ _ => pk_le 3 3 (fun _ => cw_n51 K hp hk H0 H1) (fun z => absurd z (by omega)))
    (fun n q _ hq _ hw => pk_le 3 q (fun z => absurd z (by omega)) (fun _ => ⟨pk_in q 3 hq, cw_kb K q (cw_d P e q) p hq hp (hle q)
      (pk_le (cw_o q (cw_d P e q) p) (cw_d P e p) (fun _ => nm_r (nI_1 q) (hw () trivial)) (fun z => absurd (cw_o_le P e q p) (by omega)) rfl rfl
        (by have := cw_o_le P e q p; have := hle p; have := hle1 p; omega) (by have := hle p; have := hle1 p; omega)) rfl (hA' q hq) rfl⟩))
variable {post : Int32 → St2 → Prop} {J : Int32 → Int32 → (Nat → Int32) → (Nat → Int32) → (Nat → Int32) → (Nat → Int32) → (Nat → Int32) → (Nat → Int32) → (Nat → Int32) → (Nat → Int32) → (Nat → Int32) → Prop}
theorem cw_f89 {J' : Int32 → Int32 → (Nat → Int32) → (Nat → Int32) → (Nat → Int32) → (Nat → Int32) → (Nat → Int32) → (Nat → Int32) → (Nat → Int32) → (Nat → Int32) → (Nat → Int32) → Prop} {y v z : Int32} {i : Nat} (hi : i < 3)
    (h : J' z (nI (i + 1)) a1 a2 a3 a4 a5 a6 (upd a7 i v) a8 a9) : wX_findLeast_89 post J J' x y (nI i) v z m a1 a2 a3 a4 a5 a6 a7 a8 a9 := by
  unfold wX_findLeast_89
  exact ⟨pk_in i 3 hi, nm_r (by rw [nI_clamp (by omega)]) (nm_r (nI_1 i) h)⟩
theorem cw_f84 {J' : Int32 → Int32 → (Nat → Int32) → (Nat → Int32) → (Nat → Int32) → (Nat → Int32) → (Nat → Int32) → (Nat → Int32) → (Nat → Int32) → (Nat → Int32) → (Nat → Int32) → Prop} {y v : Int32} {i : Nat} (hi : i < 3)
    (h : J' 1 (nI (i + 1)) a1 a2 a3 a4 a5 a6 (upd a7 i v) a8 a9) : wX_findLeast_84 post J J' x y (nI i) v m a1 a2 a3 a4 a5 a6 a7 a8 a9 := by
  unfold wX_findLeast_84
  exact cw_f89 hi h
theorem cw_upd {s : Nat → Int32} {f g i v : Nat} (hs : ∀ q, q < 3 → s q = nI (cw_d P f q)) (hi : v = cw_d P g i) (ho : ∀ q, q ≠ i → cw_d P f q = cw_d P g q) :
    ∀ q, q < 3 → upd s i (nI v) q = nI (cw_d P g q) := by
  intro q hq
  by_cases z : q = i
  · rw [z, pk_us, hi]
  · rw [pk_un z, hs q hq, ho q z]
/-- one round over the processes -/
theorem cw_f39 (K : cw_K P t a1 a2 a3) (he : e ≤ 1 - t) (hA : ∀ q, q < 3 → a7 q = nI (cw_d P e q)) (r : Nat)
    (H0 : (∃ p, p < 3 ∧ p ≠ P ∧ ¬ cw_b x p) → ∀ b, post 0 (m, a1, a2, a3, a4, a5, a6, b, a8, a9))
    (H1 : (∀ p, p < 3 → p ≠ P → cw_b x p) → ∀ z b f, f ≤ 1 - t → (∀ q, q < 3 → b q = nI (cw_d P f q)) → (P < 3 → ¬ cw_b x P → f = 1 - t) → J z (nI (r + 1)) a1 a2 a3 a4 a5 a6 b a8 a9) :
    ∃ n, wX_findLeast_39 post J x (nI r) m n 0 0 a1 a2 a3 a4 a5 a6 a7 a8 a9 := by
  refine pk_loop (σ := Int32 × (Nat → Int32)) (fun n i s => wX_findLeast_39 post J x (nI r) m n s.1 (nI i) a1 a2 a3 a4 a5 a6 s.2 a8 a9)
    (fun i s => ∃ f, f ≤ 1 - t ∧ (∀ q, q < 3 → s.2 q = nI (cw_d P f q)) ∧ (∀ q, q < i → q ≠ P → cw_b x q) ∧ (P < i → ¬ cw_b x P → f = 1 - t))
    3 0 (0, a7) (by omega) ⟨e, he, hA, fun q hq => absurd hq (by omega), fun hq => absurd hq (by omega)⟩ ?_ ?_
  · rintro n ⟨s1, s2⟩ ⟨f, h1, h2, h3, h4⟩
    have h2 : ∀ q, q < 3 → s2 q = nI (cw_d P f q) := h2
    exact pk_le 3 3 (fun _ => nm_r (nI_1 r) (H1 h3 _ _ f h1 h2 h4)) (fun z => absurd z (by omega))
  · rintro n i ⟨s1, s2⟩ hi ⟨f, h1, h2, h3, h4⟩ hw
    have h2 : ∀ q, q < 3 → s2 q = nI (cw_d P f q) := h2
    have hc := cw_a1 K hi
    have hd1 := cw_d_1 P i
    refine pk_le 3 i (fun z => absurd z (by omega)) (fun _ => cw_need K h1 h2 hi (fun hb => ?_) (fun hb => ?_))
    · have hle : cw_d P f i ≤ cw_d P 1 i := cw_d_le P i (by omega)
      have G : ∀ z, wX_findLeast_39 post J x (nI r) m n z (nI (i + 1)) a1 a2 a3 a4 a5 a6 (upd s2 i (nI (cw_d P f i))) a8 a9 := fun z => hw (z, upd s2 i (nI (cw_d P f i))) ⟨f, h1, cw_upd h2 rfl (fun _ _ => rfl), fun q hq hn => by
          by_cases y : q = i
          · rw [y]; exact hb
          · exact h3 q (by omega) hn, fun hq hn => by
          by_cases y : P = i
          · exact absurd hb (by rw [← y]; exact hn)
          · exact h4 (by omega) hn⟩
      exact ⟨pk_in i 3 hi, pk_le (cw_d P f i) (cw_d P 1 i) (fun _ => br_c (fun _ => ⟨pk_in i 3 hi, br_c (fun _ => cw_f89 hi (G 0)) (fun _ => cw_f84 hi (G 1))⟩) (fun _ => cw_f84 hi (G 1))) (fun z => absurd z (by omega)) rfl hc⟩
    · by_cases hP : i = P
      · subst hP
        rw [show cw_v i t i = 1 - t from if_pos rfl]
        have D := cw_d_P i 1
        have G : ∀ z, wX_findLeast_39 post J x (nI r) m n z (nI (i + 1)) a1 a2 a3 a4 a5 a6 (upd s2 i (nI (1 - t))) a8 a9 := fun z => hw (z, upd s2 i (nI (1 - t))) ⟨1 - t, Nat.le_refl _, cw_upd h2 (cw_d_P i (1 - t)).symm (fun q hq => by rw [cw_d_n _ hq, cw_d_n _ hq]), fun q hq hn => h3 q (by omega) hn, fun _ _ => rfl⟩
        exact ⟨pk_in i 3 hi, pk_le (1 - t) (cw_d i 1 i) (fun _ => br_c (fun _ => ⟨pk_in i 3 hi, br_c (fun _ => cw_f89 hi (G 0)) (fun _ => cw_f84 hi (G 1))⟩) (fun _ => cw_f84 hi (G 1))) (fun z => absurd z (by omega)) rfl hc⟩
      · rw [show cw_v P t i = 1 from if_neg hP]
        have D := cw_d_n 1 hP
        exact ⟨pk_in i 3 hi, pk_le 1 (cw_d P 1 i) (fun z => absurd z (by omega)) (fun _ => H0 ⟨i, hi, hP, hb⟩ _) rfl hc⟩
theorem cw_find (K : cw_K P t a1 a2 a3)
    (H0 : (∃ p, p < 3 ∧ p ≠ P ∧ ¬ cw_b x p) → ∀ b, post 0 (m, a1, a2, a3, a4, a5, a6, b, a8, a9))
    (H1 : (∀ p, p < 3 → p ≠ P → cw_b x p) → ∀ b, (P < 3 → ¬ cw_b x P → b P = nI (1 - t)) → post 1 (m, a1, a2, a3, a4, a5, a6, b, a8, a9)) :
    wpX_findLeast post (m, a1, a2, a3, a4, a5, a6, a7, a8, a9) x := by
  unfold wpX_findLeast
  dsimp only
  refine pk_loop (fun n i s => wX_findLeast_2 post x m n (nI i) a1 a2 a3 a4 a5 a6 s a8 a9) (fun i s => ∀ q, q < i → s q = 0) 3 0 a7 (by omega) (fun q hq => absurd hq (by omega)) ?_ ?_
  · intro n s hs
    refine pk_le 3 3 (fun _ => ?_) (fun z => absurd z (by omega))
    have hs0 : ∀ q, q < 3 → s q = nI (cw_d P 0 q) := fun q hq => by rw [cw_d_0]; exact hs q hq
    refine pk_loop (σ := Int32 × (Nat → Int32)) (fun n i s => wX_findLeast_24 post x m n s.1 (nI i) a1 a2 a3 a4 a5 a6 s.2 a8 a9)
      (fun i s => ∃ f, f ≤ 1 - t ∧ (∀ q, q < 3 → s.2 q = nI (cw_d P f q)) ∧ (i = 0 → s.1 = 1) ∧ (0 < i → (∀ p, p < 3 → p ≠ P → cw_b x p) ∧ (P < 3 → ¬ cw_b x P → f = 1 - t)))
      30 0 (1, s) (by omega) ⟨0, by omega, hs0, fun _ => rfl, fun z => absurd z (by omega)⟩ ?_ ?_
    · rintro n ⟨s1, s2⟩ ⟨f, h1, h2, h3, h4⟩
      have h2 : ∀ q, q < 3 → s2 q = nI (cw_d P f q) := h2
      obtain ⟨h5, h6⟩ := h4 (by omega)
      exact pk_le 30 30 (fun _ => H1 h5 s2 (fun u v => by rw [h2 P u, cw_d_P, h6 u v])) (fun z => absurd z (by omega))
    · rintro n i ⟨s1, s2⟩ hi ⟨f, h1, h2, h3, h4⟩ hw
      have h2 : ∀ q, q < 3 → s2 q = nI (cw_d P f q) := h2
      refine pk_le 30 i (fun z => absurd z (by omega)) (fun _ => br_c (fun z => ?_) (fun _ => ?_))
      · have hi0 : 0 < i := by
          rcases Nat.eq_zero_or_pos i with y | y
          · have z1 : s1 = 0 := z
            have z2 : s1 = 1 := h3 y
            rw [z1] at z2
            exact absurd z2 (by decide)
          · exact y
        obtain ⟨h5, h6⟩ := h4 hi0
        exact H1 h5 s2 (fun u v => by rw [h2 P u, cw_d_P, h6 u v])
      · exact cw_f39 K h1 h2 i H0 (fun C z b f' g1 g2 g3 => hw (z, b) ⟨f', g1, g2, fun y => absurd y (by omega), fun _ => ⟨C, g3⟩⟩)
  · intro n i s hi hs hw
    exact pk_le 3 i (fun z => absurd z (by omega)) (fun _ => ⟨pk_in i 3 hi, nm_r (by rw [nI_clamp (by omega)]) (nm_r (nI_1 i) (hw (upd s i 0) (fun q hq => by
      by_cases y : q = i
      · rw [y, pk_us]
      · rw [pk_un y]; exact hs q (by omega))))⟩)
end
end
section
section
variable {m x : Int32} {a1 a2 a3 a4 a5 a6 a7 a8 a9 : Nat → Int32} {P t : Nat} {post : Int32 → St2 → Prop}
/-- one turn of the search for a stretch -/
theorem cw_s2 (K : cw_K P t a1 a2 a3) {p k n : Nat} (hp : p < 3) (hk : k ≤ cw_d P 1 p) (hg : cw_g P t p k ≤ 1) (H : cw_g P t p k ≠ 0 → wX_nextStretch_32 post (nI p) (nI k) m a1 a2 a3 a4 a5 a6 a7 a8 a9)
    (H' : cw_g P t p k = 0 → wX_nextStretch_2 post (nI p) m a1 a2 a3 a4 a5 a6 a7 a8 a9 n (nI (k + 1))) :
    wX_nextStretch_2 post (nI p) m a1 a2 a3 a4 a5 a6 a7 a8 a9 (n + 1) (nI k) := by
  have h1 := cw_d_1 P p
  exact ⟨pk_in p 3 hp, pk_lt (cw_d P 1 p) k (fun z => absurd z (by omega)) (fun _ => ⟨cw_in9 hp (by omega), pk_eq (cw_g P t p k) 0 (fun z => nm_r (nI_1 k) (H' z)) H (cw_a2 K hp hk)⟩) (cw_a1 K hp)⟩
theorem cw_s2x (K : cw_K P t a1 a2 a3) {p n : Nat} (hp : p < 3) (hd : cw_d P 1 p = 0) (H : post 0 (m, a1, a2, a3, a4, a5, a6, a7, a8, a9)) :
    wX_nextStretch_2 post (nI p) m a1 a2 a3 a4 a5 a6 a7 a8 a9 (n + 1) (nI 1) :=
  ⟨pk_in p 3 hp, pk_lt (cw_d P 1 p) 1 (fun _ => ⟨pk_in p 3 hp, pk_le 1 (cw_d P 1 p) (fun z => absurd z (by omega)) (fun _ => H) rfl (cw_a1 K hp)⟩) (fun z => absurd z (by omega)) (cw_a1 K hp)⟩
theorem cw_s32 (K : cw_K P t a1 a2 a3) (hP : P < 3) {k : Nat} (hk : k ≤ 1) (hg : k = 1 ∨ t = 1) (H : ∀ b c, post 1 (m, a1, a2, a3, a4, a5, a6, a7, b, c)) :
    wX_nextStretch_32 post (nI P) (nI k) m a1 a2 a3 a4 a5 a6 a7 a8 a9 := by
  have D := cw_d_P P 1
  have hc := cw_a1 K hP
  rw [D] at hc
  refine ⟨pk_in P 3 hP, pk_le k 1 (fun _ => ⟨pk_in P 3 hP, nm_e ⟨1, ?_⟩⟩) (fun z => absurd z (by omega)) rfl hc⟩
  refine ⟨pk_in P 3 hP, pk_le 1 k (fun _ => ⟨pk_in P 3 hP, nm_e (H _ _)⟩) (fun z => ?_) hc⟩
  have k0 : k = 0 := by omega
  subst k0
  have t1 : t = 1 := by omega
  have e : (9 : Int32) * nI P + nI 0 + 1 = nI (9 * P + 1) := by rw [cw_i9, nI_1, Nat.add_zero]
  refine ⟨pk_in (9 * P + 1) 27 (by omega) e, br_t ?_ ⟨pk_in P 3 hP, nm_e (H _ _)⟩⟩
  rw [e, nI_clamp (by omega), K.2.2.1 P 1 hP (by omega), cw_g, if_pos rfl, if_neg (by omega), t1]
  rfl
theorem cw_next (K : cw_K P t a1 a2 a3) {p : Nat} (hp : p < 3) (H0 : p ≠ P → post 0 (m, a1, a2, a3, a4, a5, a6, a7, a8, a9)) (H1 : p = P → ∀ b c, post 1 (m, a1, a2, a3, a4, a5, a6, a7, b, c)) :
    wpX_nextStretch post (m, a1, a2, a3, a4, a5, a6, a7, a8, a9) (nI p) 0 := by
  unfold wpX_nextStretch
  dsimp only
  show ∃ n, wX_nextStretch_2 post (nI p) m a1 a2 a3 a4 a5 a6 a7 a8 a9 n (nI 0)
  refine ⟨2, ?_⟩
  by_cases e : p = P
  · subst e
    have ht := K.1
    have G0 : cw_g p t p 0 = t := by rw [cw_g, if_pos rfl, if_pos rfl]
    have G1 : cw_g p t p 1 = 1 - t := by rw [cw_g, if_pos rfl, if_neg (by omega)]
    have D := cw_d_P p 1
    refine cw_s2 K (k := 0) hp (by omega) (by omega) (fun z => cw_s32 K hp (by omega) (by omega) (H1 rfl)) (fun z => ?_)
    exact cw_s2 K (k := 1) hp (by omega) (by omega) (fun _ => cw_s32 K hp (by omega) (by omega) (H1 rfl)) (fun z2 => absurd z2 (by omega))
  · have D := cw_d_n 1 e
    have G0 : cw_g P t p 0 = 0 := if_neg e
    exact cw_s2 K (k := 0) hp (by omega) (by omega) (fun z => absurd G0 z) (fun _ => cw_s2x K hp D (H0 e))
theorem cw_te39 {q : Int32 → Prop} {J2 J9 : Int32 → Prop} {p r : Nat} (h : J9 (nI (r + 1))) : wX_tooEarly_39 q J2 J9 x (nI p) (nI r) m a1 a2 a3 a4 a5 a6 a7 a8 a9 := by
  unfold wX_tooEarly_39 wX_tooEarly_40
  exact br_t rfl (nm_r (nI_1 r) h)
theorem cw_early {q : Int32 → Prop} (C : ∀ p, p < 3 → p ≠ P → cw_b x p) (h : q (-1)) : wpX_tooEarly q (m, a1, a2, a3, a4, a5, a6, a7, a8, a9) x := by
  unfold wpX_tooEarly
  dsimp only
  refine pk_loop (σ := Unit) (fun n p _ => wX_tooEarly_2 q x m a1 a2 a3 a4 a5 a6 a7 a8 a9 n (nI p)) (fun _ _ => True) 3 0 () (by omega) trivial (fun n _ _ => pk_le 3 3 (fun _ => h) (fun z => absurd z (by omega))) ?_
  intro n p _ hp _ hw
  refine pk_le 3 p (fun z => absurd z (by omega)) (fun _ => ?_)
  exact pk_loop (σ := Unit) (fun n' r _ => wX_tooEarly_9 q (wX_tooEarly_2 q x m a1 a2 a3 a4 a5 a6 a7 a8 a9 n) x (nI p) m a1 a2 a3 a4 a5 a6 a7 a8 a9 n' (nI r)) (fun _ _ => True) 3 0 () (by omega) trivial
    (fun n' _ _ => pk_le 3 3 (fun _ => nm_r (nI_1 p) (hw () trivial)) (fun z => absurd z (by omega)))
    (fun n' r _ hr _ hw' => pk_le 3 r (fun z => absurd z (by omega)) (fun _ => pk_eq p r (fun _ => cw_te39 (hw' () trivial)) (fun hne => br_c (fun _ => cw_te39 (hw' () trivial)) (fun o1 => br_c (fun _ => cw_te39 (hw' () trivial)) (fun o2 => by
      by_cases z : p = P
      · exact absurd (C r hr (fun y => hne (z.trans y.symm))) o2
      · exact absurd (C p hp z) o1)))))
theorem cw_meet (K : cw_K P t a1 a2 a3) (H0 : (∃ p, p < 3 ∧ p ≠ P ∧ ¬ cw_b x p) → ∀ b c, post 0 (m, a1, a2, a3, a4, a5, a6, a7, b, c))
    (H1 : (∀ p, p < 3 → p ≠ P → cw_b x p) → ∀ b c, post 1 (m, a1, a2, a3, a4, a5, a6, a7, b, c)) :
    wpX_stretchesMeet post (m, a1, a2, a3, a4, a5, a6, a7, a8, a9) x := by
  unfold wpX_stretchesMeet
  dsimp only
  refine pk_loop (σ := (Nat → Int32) × (Nat → Int32)) (fun n i s => wX_stretchesMeet_2 post x n (nI i) m a1 a2 a3 a4 a5 a6 a7 s.1 s.2) (fun i s => ∀ q, q < i → q ≠ P → cw_b x q) 3 0 (a8, a9) (by omega) (fun q hq => absurd hq (by omega)) ?_ ?_
  · rintro n ⟨s1, s2⟩ C
    refine pk_le 3 3 (fun _ => ⟨2, ?_⟩) (fun z => absurd z (by omega))
    refine br_f (by decide) (br_f (by decide) ?_)
    refine cw_early C ?_
    refine br_t (by decide) ?_
    unfold wX_stretchesMeet_63
    refine br_t rfl (nm_e ?_)
    exact br_f (by decide) (br_t rfl (H1 C s1 s2))
  · rintro n i ⟨s1, s2⟩ hi C hw
    refine pk_le 3 i (fun z => absurd z (by omega)) (fun _ => br_c (fun hb => nm_r (nI_1 i) (hw (s1, s2) (fun q hq hn => ?_))) (fun hb => ?_))
    · by_cases y : q = i
      · rw [y]; exact hb
      · exact C q (by omega) hn
    · refine cw_next K hi (fun hn => br_t rfl (H0 ⟨i, hi, hn, hb⟩ _ _)) (fun he b c => br_f (by decide) (nm_r (nI_1 i) (hw (b, c) (fun q hq hn => C q (by omega) hn))))
end
end
section
section
variable {m : Int32} {a1 a2 a3 a4 a5 a6 a7 a8 a9 : Nat → Int32} {P t : Nat}
theorem cw_isY {q : Int32 → Prop} {u : St0} (hP : P < 3) (h : q 1) : wpX_isProcess q u (nI P) :=
  pk_lt P 0 (fun z => absurd z (by omega)) (fun _ => pk_lt 2 P (fun z => absurd z (by omega)) (fun _ => h))
theorem cw_isN {q : Int32 → Prop} {u : St0} {x : Int32} (hx : x < 0 ∨ 2 < x) (h : q 0) : wpX_isProcess q u x :=
  br_c (fun _ => h) (fun z => br_t (hx.resolve_left z) h)
theorem cw_startY {post : Int32 → St2 → Prop} {y : Int32} (hP : P < 3) (h : post 0 (m, a1, upd a2 (9 * P) (vp_nar .boolean y), a3, a4, a5, a6, a7, a8, a9)) :
    wpX_start post (m, a1, a2, a3, a4, a5, a6, a7, a8, a9) (nI P) y := by
  unfold wpX_start
  dsimp only
  have e : (9 : Int32) * nI P = nI (9 * P) := by rw [show (9 : Int32) = nI 9 from rfl, pk_mul]
  exact cw_isY hP (br_f (by decide) ⟨pk_in (9 * P) 27 (by omega) e, nm_r (by rw [e, nI_clamp (by omega)]) h⟩)
theorem cw_startN {post : Int32 → St2 → Prop} {x y : Int32} (hx : x < 0 ∨ 2 < x) (h : post (-1) (m, a1, a2, a3, a4, a5, a6, a7, a8, a9)) :
    wpX_start post (m, a1, a2, a3, a4, a5, a6, a7, a8, a9) x y := by
  unfold wpX_start
  dsimp only
  exact cw_isN hx (br_t rfl h)
theorem cw_adv {post : St2 → Prop} {y : Int32} (hP : P < 3) (h1 : a1 P = 0) (h3 : ∀ j, a3 j = 0)
    (h : ∀ s, (∀ j, s j = 0) → post (m, upd a1 P 1, upd a2 (9 * P + 1) (vp_nar .boolean y), upd s (27 * P + 3 + P) 1, a4, a5, a6, a7, a8, a9)) :
    wpX_advance post (m, a1, a2, a3, a4, a5, a6, a7, a8, a9) (nI P) y := by
  unfold wpX_advance
  dsimp only
  have c : (nI P).toNatClampNeg = P := nI_clamp (by omega)
  have e9 := cw_i9 P 1
  refine ⟨pk_in P 3 hP, nm_r (e' := nI 1) (by rw [c, h1]; rfl) ⟨pk_in P 3 hP, nm_r (e' := upd a1 P 1) (by rw [c]; rfl) ⟨pk_in (9 * P + 1) 27 (by omega) e9, nm_r (e' := upd a2 (9 * P + 1) (vp_nar .boolean y)) (by rw [e9, nI_clamp (by omega)]) ?_⟩⟩⟩
  have eA : ∀ i, ((27 : Int32) * nI P + 3 * nI 1 - 3) + nI i = nI (27 * P + i) := fun i => by
    rw [show (27 : Int32) = nI 27 from rfl, show (3 : Int32) = nI 3 from rfl, pk_mul, pk_mul, nI_add, pk_sub (by omega), nI_add, show 27 * P + 3 * 1 - 3 = 27 * P by omega]
  refine pk_loop (fun n i s => wX_advance_31 post (nI P) (nI 1) m n (nI i) (upd a1 P 1) (upd a2 (9 * P + 1) (vp_nar .boolean y)) s a4 a5 a6 a7 a8 a9) (fun _ s => ∀ j, s j = 0) 3 0 a3 (by omega) h3 ?_ ?_
  · intro n s hs
    exact pk_le 3 3 (fun _ => ⟨pk_in (27 * P + 3 * 1 + P) 81 (by omega) (cw_i27 P 1 P), nm_r (e' := upd s (27 * P + 3 + P) 1) (by rw [cw_i27, nI_clamp (by omega)]; rfl) (h s hs)⟩) (fun z => absurd z (by omega))
  · intro n i s hi hs hw
    exact pk_le 3 i (fun z => absurd z (by omega)) (fun _ => ⟨pk_in (27 * P + i) 81 (by omega) (eA i), pk_in (27 * P + 3 * 1 + i) 81 (by omega) (cw_i27 P 1 i), nm_e (nm_r (nI_1 i) (hw _ (fun j => by
      unfold upd
      split
      · exact hs _
      · exact hs j)))⟩)
theorem cw_sendY {post : Int32 → St2 → Prop} {y : Int32} (hP : P < 3) (h1 : a1 P = 0) (h3 : ∀ j, a3 j = 0)
    (h : ∀ s b, (∀ j, s j = 0) → post 0 (1, upd a1 P 1, upd a2 (9 * P + 1) (vp_nar .boolean y), upd s (27 * P + 3 + P) 1, upd a4 0 (nI P), b, upd a6 0 0, a7, a8, a9)) :
    wpX_send post (0, a1, a2, a3, a4, a5, a6, a7, a8, a9) (nI P) y := by
  unfold wpX_send
  dsimp only
  have c : (nI P).toNatClampNeg = P := nI_clamp (by omega)
  refine cw_isY hP (br_f (by decide) ⟨pk_in P 3 hP, br_t (by rw [c, h1]; decide) (cw_adv hP h1 h3 (fun s hs => ?_))⟩)
  refine ⟨pk_in 0 24 (by omega), nm_r (e' := upd a4 0 (nI P)) (by rw [sb_cl0]) ⟨pk_in P 3 hP, pk_in 0 24 (by omega), nm_e ⟨pk_in 0 24 (by omega), nm_r (e' := upd a6 0 0) (by rw [sb_cl0]) (nm_r (e' := 1) rfl ?_)⟩⟩⟩
  exact h s _ hs
theorem cw_sendN {post : Int32 → St2 → Prop} {x y : Int32} (hx : x < 0 ∨ 2 < x) (h : post (-1) (m, a1, a2, a3, a4, a5, a6, a7, a8, a9)) :
    wpX_send post (m, a1, a2, a3, a4, a5, a6, a7, a8, a9) x y := by
  unfold wpX_send
  dsimp only
  exact cw_isN hx (br_t rfl h)
theorem cw_K0 (ht : t ≤ 1) : cw_K 3 t (fun _ => 0) (fun _ => 0) (fun _ => 0) := by
  refine ⟨ht, fun q hq => ?_, fun q s hq hs => ?_, fun q s r hq hr hs => ?_⟩
  · rw [cw_d_n 1 (by omega)]; rfl
  · rw [cw_g, if_neg (by omega)]; rfl
  · rw [cw_d_n 1 (by omega)] at hs
    rw [show s = 0 by omega, cw_o, ite_self]; rfl
theorem cw_KP {s : Nat → Int32} (hP : P < 3) (ht : t ≤ 1) (hs : ∀ j, s j = 0) :
    cw_K P t (upd (fun _ => 0) P 1) (upd (upd (fun _ => 0) (9 * P) (nI t)) (9 * P + 1) (nI (1 - t))) (upd s (27 * P + 3 + P) 1) := by
  refine ⟨ht, fun q hq => ?_, fun q k hq hk => ?_, fun q k r hq hr hk => ?_⟩
  · unfold upd cw_d
    split <;> rfl
  · have hk1 := cw_d_1 P q
    by_cases e : q = P
    · subst e
      rcases (show k = 0 ∨ k = 1 by omega) with rfl | rfl
      · rw [pk_un (by omega), cw_g, if_pos rfl, if_pos rfl]
        exact pk_us
      · rw [pk_us, cw_g, if_pos rfl, if_neg (by omega)]
    · have D := cw_d_n 1 e
      rw [pk_un (by omega), pk_un (by omega), cw_g, if_neg e]
      rfl
  · have hk1 := cw_d_1 P q
    by_cases e : q = P
    · subst e
      by_cases z : r = q ∧ k = 1
      · obtain ⟨rfl, rfl⟩ := z
        rw [show 27 * r + 3 * 1 + r = 27 * r + 3 + r by omega, pk_us, cw_o, if_pos rfl]
        rfl
      · rw [pk_un (by omega), hs, cw_o]
        split
        · rw [show k = 0 by omega]; rfl
        · rfl
    · have D := cw_d_n 1 e
      rw [pk_un (by omega), hs, show k = 0 by omega, cw_o, ite_self]
      rfl
theorem cw_nar {t : Nat} (ht : t ≤ 1) : vp_nar .boolean (nI t) = nI t := by
  rcases (show t = 0 ∨ t = 1 by omega) with rfl | rfl <;> rfl
end
end
section
section
/-- the process that the law asks for: it is P, which has sent message 0; or it is none -/
def cw_R (P : Nat) (x0 x6 m : Int32) (a4 a6 : Nat → Int32) : Prop :=
  (P < 3 ∧ x0 = nI P ∧ x6 = 1 ∧ m = 1 ∧ a4 0 = nI P ∧ a6 0 = 0) ∨ (P = 3 ∧ x6 = 0 ∧ (x0 < 0 ∨ 2 < x0))
/-- the set that the law asks for: none (x8 = 0); or {P} (x9 = 1); or one with another process -/
def cw_S (P : Nat) (x2 x8 x9 : Int32) : Prop :=
  (x8 = 0 ∧ x9 = 0 ∧ (x2 < 1 ∨ 7 < x2)) ∨ (x8 = 1 ∧ ¬ x2 < 1 ∧ ¬ 7 < x2 ∧ ((x9 = 1 ∧ P < 3 ∧ (∀ p, p < 3 → p ≠ P → cw_b x2 p) ∧ ¬ cw_b x2 P) ∨ (x9 = 0 ∧ ∃ p, p < 3 ∧ p ≠ P ∧ ¬ cw_b x2 p)))
variable {post : Int32 → St0 → Prop} {mc ms kc ks : Nat} {m x0 x1 x2 x3 x4 x6 x7 x8 x9 z : Int32} {a1 a2 a3 a4 a5 a6 a7 a8 a9 : Nat → Int32} {P t : Nat}
theorem cw_recv {q : Int32 → St2 → Prop} {y : Int32} (K : cw_K P t a1 a2 a3) (R : cw_R P x0 x6 m a4 a6) (h : q (-1) (m, a1, a2, a3, a4, a5, a6, a7, a8, a9)) : wpX_receive q (m, a1, a2, a3, a4, a5, a6, a7, a8, a9) x0 0 y := by
  unfold wpX_receive
  dsimp only
  rcases R with ⟨hP, rfl, _, rfl, h4, h6⟩ | ⟨_, _, hx⟩
  · refine br_f (by decide) (br_f (by decide) ?_)
    unfold wX_receive_17
    have D := cw_d_P P 1
    exact cw_isY hP (br_f (by decide) ⟨pk_in P 3 hP, pk_le 8 (cw_d P 1 P) (fun z => absurd z (by omega)) (fun _ => br_f (by decide) ⟨pk_in 0 24 (by omega), br_t (by rw [sb_cl0, h6]) ⟨pk_in 0 24 (by omega), br_t (by rw [sb_cl0, h4]) h⟩⟩) rfl (cw_a1 K hP)⟩)
  · have G : ∀ z, wX_receive_17 q x0 0 y z m a1 a2 a3 a4 a5 a6 a7 a8 a9 := fun z => by
      unfold wX_receive_17
      exact cw_isN hx (br_t rfl h)
    refine br_f (by decide) (br_c (fun _ => ?_) (fun _ => G 1))
    unfold wX_receive_16
    exact G 0
theorem cw_315 (K : cw_K P t a1 a2 a3) (R : cw_R P x0 x6 m a4 a6) (h : post 1 ()) : wL_lawOf_315 post mc ms x0 x7 z z kc ks m a1 a2 a3 a4 a5 a6 a7 a8 a9 := by
  unfold wL_lawOf_315
  exact br_t rfl (cw_recv K R (br_t rfl h))
theorem cw_296 (K : cw_K P t a1 a2 a3) (R : cw_R P x0 x6 m a4 a6) (h : post 1 ()) : wL_lawOf_296 post mc ms x0 x6 x7 z z kc ks m a1 a2 a3 a4 a5 a6 a7 a8 a9 := by
  unfold wL_lawOf_296
  refine br_t rfl ?_
  unfold wpX_events
  dsimp only
  have R0 := R
  rcases R with ⟨hP, rfl, rfl, _⟩ | ⟨_, rfl, hx⟩
  · refine cw_isY hP (br_f (by decide) ⟨pk_in P 3 hP, br_f (by decide) ?_⟩)
    rw [cw_a1 K hP, cw_d_P]
    exact cw_315 K R0 h
  · exact cw_isN hx (br_t rfl (br_t rfl (cw_315 K R0 h)))
theorem cw_260 (K : cw_K P t a1 a2 a3) (R : cw_R P x0 x6 m a4 a6) (hP : P < 3) {k q : Nat} (hk : k ≤ 1) (hq : q < 3) (h : post 1 ()) : wL_lawOf_260 post mc ms x0 (nI k) (nI q) x6 x7 kc ks m a1 a2 a3 a4 a5 a6 a7 a8 a9 := by
  unfold wL_lawOf_260 wL_lawOf_265 wpX_knows
  dsimp only
  have R0 := R
  rcases R with ⟨_, rfl, _⟩ | ⟨z, _⟩
  · have D := cw_d_P P 1
    refine cw_isY hP (br_f (by decide) (cw_isY hq (br_f (by decide) (pk_lt k 0 (fun z => absurd z (by omega)) (fun _ => ⟨pk_in P 3 hP, pk_le k (cw_d P 1 P) (fun _ => cw_kb K P k q hP hq (by omega) (br_f (by decide) (pk_eq q P (fun z => ?_) (fun z => ?_)))) (fun z => absurd z (by omega)) rfl (cw_a1 K hP)⟩)))))
    · rw [show cw_o P k q = k from if_pos z]
      exact cw_296 K R0 h
    · rw [show cw_o P k q = 0 from if_neg z]
      exact cw_296 K R0 h
  · omega
theorem cw_264 (K : cw_K P t a1 a2 a3) (R : cw_R P x0 x6 m a4 a6) (hx : P = 3 ∨ (x4 < 0 ∨ 2 < x4) ∨ (¬ x3 = 0 ∧ ¬ x3 = 1)) (h : post 1 ()) : wL_lawOf_264 post mc ms x0 x3 x4 x6 x7 kc ks m a1 a2 a3 a4 a5 a6 a7 a8 a9 := by
  have G : wL_lawOf_296 post mc ms x0 x6 x7 (-1) (-1) kc ks m a1 a2 a3 a4 a5 a6 a7 a8 a9 := cw_296 K R h
  unfold wL_lawOf_264 wL_lawOf_265 wpX_knows
  dsimp only
  rcases R with ⟨hP, rfl, _⟩ | ⟨_, _, hx0⟩
  · refine cw_isY hP (br_f (by decide) ?_)
    by_cases h4 : x4 < 0 ∨ 2 < x4
    · exact cw_isN h4 (br_t rfl (br_t rfl G))
    · obtain ⟨q, hq, rfl⟩ := nI_of2 (M := 2) (n := 2) rfl (fun z => h4 (Or.inl z)) (Int32.not_lt.mp (fun z => h4 (Or.inr z)))
      have h3 : ¬ x3 = 0 ∧ ¬ x3 = 1 := by
        rcases hx with z | z | z
        · omega
        · exact absurd z h4
        · exact z
      refine cw_isY (by omega) (br_f (by decide) (br_c (fun _ => br_t rfl G) (fun n0 => ⟨pk_in P 3 hP, br_f (fun le => ?_) (br_t rfl G)⟩)))
      rw [cw_a1 K hP, cw_d_P] at le
      obtain ⟨k, hk, rfl⟩ := nI_of2 (M := nI 1) (n := 1) rfl n0 le
      rcases (show k = 0 ∨ k = 1 by omega) with rfl | rfl
      · exact h3.1 rfl
      · exact h3.2 rfl
  · exact cw_isN hx0 (br_t rfl (br_t rfl G))
theorem cw_230 (K : cw_K P t a1 a2 a3) (R : cw_R P x0 x6 m a4 a6) (h : post 1 ()) : wL_lawOf_230 post mc ms x0 x3 x4 x6 x7 z z kc ks m a1 a2 a3 a4 a5 a6 a7 a8 a9 := by
  unfold wL_lawOf_230
  refine br_t rfl ?_
  have R0 := R
  rcases R with ⟨hP, _, rfl, _⟩ | ⟨hP, rfl, _⟩
  · refine br_f (by decide) (br_c (fun z => cw_264 K R0 (Or.inr (Or.inl (Or.inl z))) h) (fun z0 => br_c (fun z => cw_264 K R0 (Or.inr (Or.inl (Or.inr z))) h) (fun z2 => ?_)))
    obtain ⟨q, hq, rfl⟩ := nI_of2 (M := 2) (n := 2) rfl z0 (Int32.not_lt.mp z2)
    exact br_c (fun z => by subst z; exact cw_260 K R0 hP (k := 0) (by omega) (by omega) h) (fun n0 => br_c (fun z => by subst z; exact cw_260 K R0 hP (k := 1) (by omega) (by omega) h) (fun n1 => cw_264 K R0 (Or.inr (Or.inr ⟨n0, n1⟩)) h))
  · exact br_t rfl (cw_264 K R0 (Or.inl hP) h)
theorem cw_199 (K : cw_K P t a1 a2 a3) (R : cw_R P x0 x6 m a4 a6) (S : cw_S P x2 x8 x9) (ht : x7 = nI t) (h : post 1 ()) : wL_lawOf_199 post mc ms x0 x2 x3 x4 x6 x7 x9 z z kc ks m a1 a2 a3 a4 a5 a6 a7 a8 a9 := by
  have t1 := K.1
  unfold wL_lawOf_199
  refine br_t rfl ?_
  unfold wpX_least
  dsimp only
  have R0 := R
  rcases S with ⟨_, rfl, hs⟩ | ⟨_, h1, h7, ⟨rfl, hP, C, hb⟩ | ⟨rfl, B⟩⟩
  · exact br_c (fun _ => br_t rfl (cw_230 K R h)) (fun n1 => br_t (hs.resolve_left n1) (br_t rfl (cw_230 K R h)))
  · refine br_f h1 (br_f h7 ?_)
    rcases R with ⟨_, rfl, _⟩ | ⟨z, _⟩
    · refine cw_isY hP (br_f (by decide) (cw_find K (fun ⟨p, p1, p2, p3⟩ => absurd (C p p1 p2) p3) (fun _ b hb' => br_f (by decide) ⟨pk_in P 3 hP, br_f (by decide) ?_⟩)))
      have e : b (nI P).toNatClampNeg = nI (1 - t) := by
        rw [nI_clamp (by omega)]
        exact hb' hP hb
      refine pk_eq t 0 (fun z => ?_) (fun z => ?_) ht
      · dsimp only
        rw [e, show 1 - t = 1 by omega]
        exact cw_230 K R0 h
      · dsimp only
        rw [e, show 1 - t = 0 by omega]
        exact cw_230 K R0 h
    · omega
  · refine br_f h1 (br_f h7 ?_)
    rcases R with ⟨hP, rfl, _⟩ | ⟨_, _, hx⟩
    · obtain ⟨p, p1, p2, p3⟩ := B
      exact cw_isY hP (br_f (by decide) (cw_find K (fun _ b => br_t rfl (br_t rfl (cw_230 K R0 h))) (fun C => absurd (C p p1 p2) p3)))
    · exact cw_isN hx (br_t rfl (br_t rfl (cw_230 K R0 h)))
theorem cw_171 (K : cw_K P t a1 a2 a3) (R : cw_R P x0 x6 m a4 a6) (S : cw_S P x2 x8 x9) (ht : x7 = nI t) (h : post 1 ()) : wL_lawOf_171 post mc ms x0 x2 x3 x4 x6 x7 x8 x9 z z kc ks m a1 a2 a3 a4 a5 a6 a7 a8 a9 := by
  unfold wL_lawOf_171
  refine br_t rfl ?_
  unfold wpX_definitely
  dsimp only
  have S0 := S
  rcases S with ⟨rfl, _, hs⟩ | ⟨rfl, h1, h7, ⟨rfl, hP, C, hb⟩ | ⟨rfl, p, p1, p2, p3⟩⟩
  · exact br_c (fun _ => br_t rfl (cw_199 K R S0 ht h)) (fun n1 => br_f (Int32.not_le.mpr (hs.resolve_left n1)) (br_t rfl (cw_199 K R S0 ht h)))
  · exact br_f h1 (br_t (Int32.not_lt.mp h7) (cw_meet K (fun ⟨p, p1, p2, p3⟩ => absurd (C p p1 p2) p3) (fun _ b c => br_f (by decide) (br_f (by decide) (br_f (by decide) (cw_199 K R S0 ht h))))))
  · exact br_f h1 (br_t (Int32.not_lt.mp h7) (cw_meet K (fun _ b c => br_t rfl (br_f (by decide) (br_t rfl (cw_199 K R S0 ht h)))) (fun C => absurd (C p p1 p2) p3)))
theorem cw_144 (K : cw_K P t a1 a2 a3) (R : cw_R P x0 x6 m a4 a6) (S : cw_S P x2 x8 x9) (ht : x7 = nI t) (h : post 1 ()) : wL_lawOf_144 post mc ms x0 x2 x3 x4 x6 x7 x8 x9 kc ks m a1 a2 a3 a4 a5 a6 a7 a8 a9 := by
  unfold wL_lawOf_144
  unfold wpX_possibly
  dsimp only
  have S0 := S
  rcases S with ⟨rfl, _, hs⟩ | ⟨rfl, h1, h7, ⟨rfl, hP, C, hb⟩ | ⟨rfl, p, p1, p2, p3⟩⟩
  · exact br_c (fun _ => br_t rfl (cw_171 K R S0 ht h)) (fun n1 => br_f (Int32.not_le.mpr (hs.resolve_left n1)) (br_t rfl (cw_171 K R S0 ht h)))
  · exact br_f h1 (br_t (Int32.not_lt.mp h7) (cw_find K (fun ⟨p, p1, p2, p3⟩ => absurd (C p p1 p2) p3) (fun _ b _ => br_f (by decide) (br_f (by decide) (br_f (by decide) (cw_171 K R S0 ht h))))))
  · exact br_f h1 (br_t (Int32.not_lt.mp h7) (cw_find K (fun _ b => br_t rfl (br_f (by decide) (br_t rfl (cw_171 K R S0 ht h)))) (fun C => absurd (C p p1 p2) p3)))
theorem cw_125 (K : cw_K P t a1 a2 a3) (R : cw_R P x0 x6 m a4 a6) (hs : (x8 = 0 ∧ (x2 < 1 ∨ 7 < x2)) ∨ (x8 = 1 ∧ ¬ x2 < 1 ∧ ¬ 7 < x2)) (ht : x7 = nI t) (h : post 1 ()) : wL_lawOf_125 post mc ms x0 x2 x3 x4 x6 x7 x8 kc ks m a1 a2 a3 a4 a5 a6 a7 a8 a9 := by
  unfold wL_lawOf_125
  have R0 := R
  rcases R with ⟨hP, rfl, rfl, _⟩ | ⟨rfl, rfl, _⟩
  · refine br_f (by decide) (br_c (fun e => ?_) (fun e => ?_))
    · refine cw_144 K R0 ?_ ht h
      rcases hs with ⟨_, y⟩ | ⟨e8, g1, g7⟩
      · rw [e] at y
        exact absurd y (fun y => y.elim (cw_pow P hP).1 (cw_pow P hP).2)
      · obtain ⟨n, n8, n0, rfl⟩ := cw_rng g1 g7
        exact Or.inr ⟨e8, g1, g7, Or.inl ⟨rfl, hP, cw_tabA P hP n n8 e, cw_tabO P hP n n8 e⟩⟩
    · unfold wL_lawOf_143
      refine cw_144 K R0 ?_ ht h
      rcases hs with ⟨e8, y⟩ | ⟨e8, g1, g7⟩
      · exact Or.inl ⟨e8, rfl, y⟩
      · obtain ⟨n, n8, n0, rfl⟩ := cw_rng g1 g7
        exact Or.inr ⟨e8, g1, g7, Or.inr ⟨rfl, cw_tabB P hP n n8 n0 e⟩⟩
  · refine br_t rfl ?_
    unfold wL_lawOf_143
    refine cw_144 K R0 ?_ ht h
    rcases hs with ⟨e8, y⟩ | ⟨e8, g1, g7⟩
    · exact Or.inl ⟨e8, rfl, y⟩
    · obtain ⟨n, n8, n0, rfl⟩ := cw_rng g1 g7
      exact Or.inr ⟨e8, g1, g7, Or.inr ⟨rfl, cw_tab3 n n8 n0⟩⟩
theorem cw_104 (K : cw_K P t a1 a2 a3) (R : cw_R P x0 x6 m a4 a6) (ht : x7 = nI t) (h : post 1 ()) : wL_lawOf_104 post mc ms x0 x2 x3 x4 x6 x7 z z kc ks m a1 a2 a3 a4 a5 a6 a7 a8 a9 := by
  unfold wL_lawOf_104 wL_lawOf_124
  exact br_t rfl (br_c (fun g => cw_125 K R (Or.inl ⟨rfl, Or.inl g⟩) ht h) (fun g1 => br_c (fun g => cw_125 K R (Or.inl ⟨rfl, Or.inr g⟩) ht h) (fun g7 => cw_125 K R (Or.inr ⟨rfl, g1, g7⟩) ht h)))
theorem cw_86 (K : cw_K P t a1 a2 a3) (R : cw_R P x0 x6 m a4 a6) (ht : x7 = nI t) (h : post 1 ()) : wL_lawOf_86 post mc ms x0 x2 x3 x4 x6 x7 z z kc ks m a1 a2 a3 a4 a5 a6 a7 a8 a9 := by
  unfold wL_lawOf_86
  refine br_t rfl ?_
  have R0 := R
  rcases R with ⟨hP, _, rfl, _⟩ | ⟨rfl, rfl, _⟩
  · exact cw_cutsY K hP (br_f (by decide) (cw_104 K R0 ht h))
  · exact cw_cutsN K (br_t rfl (cw_104 K R0 ht h))
theorem cw_37Y (hP : P < 3) (t1 : t ≤ 1) (h : post 1 ()) : wL_lawOf_37 post mc ms (nI P) x2 x3 x4 1 (nI t) kc ks 0 (fun _ => 0) (fun _ => 0) (fun _ => 0) (fun _ => 0) (fun _ => 0) (fun _ => 0) (fun _ => 0) (fun _ => 0) (fun _ => 0) := by
  unfold wL_lawOf_37
  refine cw_startY hP (br_f (by decide) ?_)
  have G : ∀ y, y = nI (1 - t) → wL_lawOf_73 post mc ms (nI P) x2 x3 x4 1 (nI t) y (nI P) kc ks 0 (fun _ => 0) (upd (fun _ => 0) (9 * P) (vp_nar .boolean (nI t))) (fun _ => 0) (fun _ => 0) (fun _ => 0) (fun _ => 0) (fun _ => 0) (fun _ => 0) (fun _ => 0) := by
    intro y hy
    subst hy
    unfold wL_lawOf_73
    refine cw_sendY hP rfl (fun _ => rfl) (fun s b hs => br_f (by decide) ?_)
    have K := cw_KP hP t1 hs
    rw [cw_nar t1, cw_nar (show 1 - t ≤ 1 by omega)]
    exact cw_86 K (Or.inl ⟨hP, rfl, rfl, rfl, pk_us, pk_us⟩) rfl h
  unfold wL_lawOf_57
  refine br_t rfl (pk_eq t 0 (fun z => G 1 ?_) (fun z => G 0 ?_))
  · rw [z]; rfl
  · rw [show 1 - t = 0 by omega]; rfl
theorem cw_37N (hx : x0 < 0 ∨ 2 < x0) (t1 : t ≤ 1) (h : post 1 ()) : wL_lawOf_37 post mc ms x0 x2 x3 x4 0 (nI t) kc ks 0 (fun _ => 0) (fun _ => 0) (fun _ => 0) (fun _ => 0) (fun _ => 0) (fun _ => 0) (fun _ => 0) (fun _ => 0) (fun _ => 0) := by
  unfold wL_lawOf_37
  refine cw_startN hx (br_t rfl ?_)
  have G : ∀ y, wL_lawOf_73 post mc ms x0 x2 x3 x4 0 (nI t) y x0 kc ks 0 (fun _ => 0) (fun _ => 0) (fun _ => 0) (fun _ => 0) (fun _ => 0) (fun _ => 0) (fun _ => 0) (fun _ => 0) (fun _ => 0) := by
    intro y
    unfold wL_lawOf_73
    exact cw_sendN hx (br_t rfl (cw_86 (cw_K0 t1) (Or.inr ⟨rfl, rfl, hx⟩) rfl h))
  unfold wL_lawOf_57
  exact br_t rfl (br_c (fun _ => G 1) (fun _ => G 0))
theorem cw_lawOf (x0 x1 x2 x3 x4 : Int32) (h : post 1 ()) : wpL_lawOf post 10 202 () x0 x1 x2 x3 x4 := by
  unfold wpL_lawOf
  refine ⟨by omega, by omega, 9, 192, by omega, by omega, ?_⟩
  unfold wpX_init
  refine ⟨by omega, by omega, by omega, by omega, by omega, by omega, by omega, by omega, by omega, by omega, by omega, by omega, by omega, by omega, by omega, by omega, by omega, by omega, ?_⟩
  have N : (x0 < 0 ∨ 2 < x0) → ∀ kc ks, wL_lawOf_22 post 10 202 x0 x1 x2 x3 x4 kc ks 0 (fun _ => 0) (fun _ => 0) (fun _ => 0) (fun _ => 0) (fun _ => 0) (fun _ => 0) (fun _ => 0) (fun _ => 0) (fun _ => 0) := by
    intro hx kc ks
    unfold wL_lawOf_22 wL_lawOf_23
    exact br_c (fun _ => cw_37N (t := 1) hx (by omega) h) (fun _ => cw_37N (t := 0) hx (by omega) h)
  refine br_c (fun g => N (Or.inl g) _ _) (fun g0 => br_c (fun g => N (Or.inr g) _ _) (fun g2 => ?_))
  obtain ⟨P, hP, rfl⟩ := nI_of2 (M := 2) (n := 2) rfl g0 (Int32.not_lt.mp g2)
  unfold wL_lawOf_23
  exact br_c (fun _ => cw_37Y (t := 1) (by omega) (by omega) h) (fun _ => cw_37Y (t := 0) (by omega) (by omega) h)
theorem cw_cell {q : Int32 → Prop} {L : Nat} {xs : Nat → Int32} {u : St0} (hL : L ≤ 5) (i : Nat) (hi : i < 5) (h : ∀ r, q r) : wpL_cellAt q L xs u (nI i) :=
  pk_le L i (fun _ => h 0) (fun z => ⟨pk_in i L z, h _⟩)
end
theorem i_vc (xs : Nat → Int32) (L : Nat) (hL : L ≤ 5) : wpL_law (fun r => r = 1) L xs := by
  unfold wpL_law
  exact cw_cell hL 0 (by omega) (fun r1 => cw_cell hL 1 (by omega) (fun r2 => cw_cell hL 2 (by omega) (fun r3 => cw_cell hL 3 (by omega) (fun r4 => cw_cell hL 4 (by omega) (fun r5 => ⟨10, 202, by omega, by omega, cw_lawOf r1 r2 r3 r4 r5 rfl⟩)))))
end
