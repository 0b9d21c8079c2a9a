section
/-! ===== the numbers: no program in sight ===== -/
/-- what the rules answer at place j: halves at even places, 100 / x at odd ones -/
def nr_v (a : Nat → Int32) (j : Nat) : Int32 := if j % 2 = 0 then a j / 2 else 100 / a j
/-- the first i answers put together, from the first to the last -/
def nr_h (a : Nat → Int32) : Nat → Int64
  | 0 => 0
  | i + 1 => nr_h a i * 3 + (nr_v a i).toInt64
/-- below n: even numbers at even places, no 0 at odd ones -/
def nr_ok (a : Nat → Int32) (n : Nat) : Prop := ∀ j, j < n → (j % 2 = 0 → (a j).toInt % 2 = 0) ∧ (j % 2 = 1 → ¬ a j = 0)
theorem nr_put {a : Nat → Int32} {i : Nat} {v : Int32} (h : nr_ok a i) (h0 : i % 2 = 0 → v.toInt % 2 = 0) (h1 : i % 2 = 1 → ¬ v = 0) : nr_ok (upd a i v) (i + 1) := by
  intro j hj
  by_cases e : j = i
  · subst e
    rw [pk_us]
    exact ⟨h0, h1⟩
  · rw [pk_un e]
    exact h j (by omega)
theorem nr_and (y : Int32) : (y &&& (-2)).toInt % 2 = 0 := by
  have h : (y &&& (-2)).toBitVec.toNat % 2 = 0 := by
    show (y.toBitVec &&& (-2 : Int32).toBitVec).toNat % 2 = 0
    rw [BitVec.toNat_and]
    have := Nat.and_mod_two_pow (a := y.toBitVec.toNat) (b := (-2 : Int32).toBitVec.toNat) (n := 1)
    rw [show (-2 : Int32).toBitVec.toNat % 2 ^ 1 = 0 by decide, Nat.and_zero] at this
    exact this
  show (y &&& (-2)).toBitVec.toInt % 2 = 0
  rw [BitVec.toInt_eq_toNat_cond]
  split <;> omega
theorem nr_div2 {x : Int32} (h : x.toInt % 2 = 0) : (x / 2).toInt = x.toInt / 2 := by
  rw [Int32.toInt_div_of_ne_right x 2 (by decide), show (2 : Int32).toInt = 2 from rfl]
  exact Int.tdiv_eq_ediv_of_dvd (Int.dvd_of_emod_eq_zero h)
theorem nr_rem2 {x : Int32} (h : x.toInt % 2 = 0) : x - x / 2 * 2 = 0 := by
  have h1 := Int32.toInt_lt x
  have h2 := Int32.le_toInt x
  have e : x / 2 * 2 = x := by
    apply Int32.toInt_inj.mp
    rw [Int32.toInt_mul, nr_div2 h, show (2 : Int32).toInt = 2 from rfl, show x.toInt / 2 * 2 = x.toInt by omega]
    exact Int.bmod_eq_of_le (by omega) (by omega)
  rw [e, Int32.sub_self]
theorem nr_half {x : Int32} (h : x.toInt % 2 = 0) : x >>> ((1 : Int32) &&& 31) = x / 2 := by
  apply Int32.toInt_inj.mp
  rw [pk_shr x _ 1 (by decide), Int.shiftRight_eq_div_pow, nr_div2 h]
  rfl
/-- a negative x: its size s, and what 100 / x is -/
theorem nr_neg {x : Int32} (h : x < 0) : ∃ s : Nat, 0 < s ∧ s ≤ 2 ^ 31 ∧ x.toInt = -(s : Int) ∧ -x.toInt64 = lN s ∧ 100 / x = -nI (100 / s) := by
  have h0 : x.toInt < 0 := Int32.lt_iff_toInt_lt.mp h
  have h2 := Int32.le_toInt x
  obtain ⟨s, hs⟩ := Int.eq_ofNat_of_zero_le (show 0 ≤ -x.toInt by omega)
  have hx : x.toInt = -(s : Int) := by omega
  refine ⟨s, by omega, by omega, hx, ?_, ?_⟩
  · apply Int64.toInt_inj.mp
    rw [Int64.toInt_neg, Int32.toInt_toInt64, hs, pk_lT (by omega)]
    exact Int.bmod_eq_of_le (by omega) (by omega)
  · apply Int32.toInt_inj.mp
    have hd : 100 / s ≤ 100 := Nat.div_le_self 100 s
    rw [Int32.toInt_div_of_ne_left 100 x (by decide), hx, Int.tdiv_neg, Int32.toInt_neg, nI_toInt (by omega), show (100 : Int32).toInt = ((100 : Nat) : Int) from rfl, Int.natCast_tdiv_eq_ediv, ← Int.natCast_ediv]
    generalize 100 / s = q at hd
    exact (Int.bmod_eq_of_le (by omega) (by omega)).symm
/-- the twin's test, in naturals -/
theorem nr_c {t s : Nat} (ht : t ≤ 100) (hs : s ≤ 2 ^ 31) : (100 : Int64) < (nI t + 1).toInt64 * lN s ↔ 100 < (t + 1) * s := by
  have hb : (t + 1) * s ≤ 101 * 2 ^ 31 := Nat.mul_le_mul (by omega) hs
  rw [nI_1, nI_l (by omega), lN_mul]
  exact pk_lLT (a := 100) (by decide) (by omega)
/-- the twin's sum from the back is the class's sum from the front -/
theorem nr_ring (x1 x3 v g : Int64) : x1 + v * x3 + x3 * 3 * g = x1 + x3 * (g * 3 + v) := by grind
end
section
/-! ===== the class: two rules taking turns ===== -/
theorem nr_33 {post : Int64 → St1 → Prop} {mc ms kc ks n : Nat} {a : Nat → Int32} (hn : n < 2 ^ 31) (ok : nr_ok a n) (h : post (nr_h a n) (a, n)) :
    ∀ c i, i + c = n → (i % 2 = 0 → wX6_inTurns_33 post mc ms (c + 1) (.inl (nr_h a i, nI n, nI i, kc, ks, a, n, 0))) ∧ (i % 2 = 1 → wX6_inTurns_33 post mc ms (c + 1) (.inr (nr_h a i, nI n, nI i, kc, ks, a, n, 0)))
  | 0, i, e => by
    have e : i = n := by omega
    subst e
    exact ⟨fun _ => br_t (nI_le (Nat.le_refl i) hn) h, fun _ => br_t (nI_le (Nat.le_refl i) hn) h⟩
  | c + 1, i, e => by
    have ih := nr_33 (mc := mc) (ms := ms) (kc := kc) (ks := ks) hn ok h c (i + 1) (by omega)
    have hi := ok i (by omega)
    have ec : a (nI i).toNatClampNeg = a i := congrArg a (nI_clamp (by omega))
    refine ⟨fun p => ?_, fun p => ?_⟩
    · refine br_f (nI_ge (by omega) hn) ⟨vp_in_nI (by omega) hn, nm_r ec ⟨by decide, br_t (nr_rem2 (hi.1 p)) ⟨by decide, nm_r ?_ (nm_r (nI_1 i) (ih.2 (by omega)))⟩⟩⟩
      show nr_h a i * 3 + (a i / 2 + 0).toInt64 = nr_h a i * 3 + (nr_v a i).toInt64
      rw [Int32.add_zero, show nr_v a i = a i / 2 from if_pos p]
    · refine br_f (nI_ge (by omega) hn) ⟨vp_in_nI (by omega) hn, nm_r ec ⟨hi.2 p, nm_r ?_ (nm_r (nI_1 i) (ih.1 (by omega)))⟩⟩
      show nr_h a i * 3 + (100 / a i).toInt64 = nr_h a i * 3 + (nr_v a i).toInt64
      rw [show nr_v a i = 100 / a i from if_neg (by omega)]
theorem nr_X6 {post : Int64 → St1 → Prop} {mc ms n : Nat} {a : Nat → Int32} (hc : 2 ≤ mc) (hs : 1 ≤ ms) (hn : n < 2 ^ 31) (ok : nr_ok a n) (h : post (nr_h a n) (a, n)) : wpX6_inTurns post mc ms (a, n) :=
  ⟨by omega, hs, hc, hs, nm_e ⟨n + 1, (nr_33 hn ok h n 0 (by omega)).1 rfl⟩⟩
/-! ===== the twin ===== -/
theorem nr_26 {post : Int32 → Prop} {x0 : Int32} {s q : Nat} (hs : 0 < s) (hs2 : s ≤ 2 ^ 31) (hq : q = 100 / s) (h : (0 ≤ x0 → post (nI q)) ∧ (¬ 0 ≤ x0 → post (-nI q))) : ∃ n, wX7_inverse_26 post x0 (lN s) n 0 := by
  have e := Nat.div_add_mod' 100 s
  have m := Nat.mod_lt 100 hs
  have q1 : q ≤ 100 := by rw [hq]; exact Nat.div_le_self 100 s
  rw [← hq] at e
  have q2 : q * s ≤ 100 := by omega
  have q3 : 100 < (q + 1) * s := by rw [Nat.succ_mul]; omega
  exact pk_loop (σ := Unit) (fun n i _ => wX7_inverse_26 post x0 (lN s) n (nI i)) (fun _ _ => True) q 0 () (by omega) trivial
    (fun n _ _ => br_t ((nr_c q1 hs2).mpr q3) h)
    (fun n i _ hi _ hw => br_f (fun z => absurd ((nr_c (by omega) hs2).mp z) (Nat.not_lt.mpr (Nat.le_trans (Nat.mul_le_mul_right s hi) q2))) (nm_r (nI_1 i) (hw () trivial)))
theorem nr_inv {post : Int32 → Prop} {x : Int32} (hx : ¬ x = 0) (h : post (100 / x)) : wpX7_inverse post () x := by
  refine br_f hx ?_
  by_cases hn : x < 0
  · obtain ⟨s, s0, s1, e, el, ed⟩ := nr_neg hn
    rw [ed] at h
    have n0 : ¬ (0 : Int64) ≤ x.toInt64 := by
      intro z
      have z := Int64.le_iff_toInt_le.mp z
      rw [Int32.toInt_toInt64] at z
      have z : (0 : Int) ≤ x.toInt := z
      omega
    have n1 : ¬ (0 : Int32) ≤ x := by
      intro z
      have z : (0 : Int) ≤ x.toInt := Int32.le_iff_toInt_le.mp z
      omega
    exact br_f n0 (nm_r el (nr_26 s0 s1 rfl (br_f n1 h)))
  · obtain ⟨s, s1, rfl⟩ := nI_of hn
    have s0 : 0 < s := by
      rcases Nat.eq_zero_or_pos s with z | z
      · exact absurd (by rw [z, nI_0]) hx
      · exact z
    have ed : 100 / nI s = nI (100 / s) := pk_div (a := 100) (by decide) s0 s1
    rw [ed] at h
    have p0 : (0 : Int64) ≤ lN s := (pk_lLE (a := 0) (by decide) (by omega)).mpr (Nat.zero_le s)
    rw [nI_l s1]
    exact br_t p0 (nr_26 s0 (by omega) rfl (br_t (nI_pos' s1) h))
theorem nr_10 {post : Int64 → Prop} {a : Nat → Int32} {n : Nat} (hn : n < 2 ^ 31) (ok : nr_ok a n) : ∀ i x1 x3, i ≤ n → post (x1 + x3 * nr_h a i) → wX7_inTurns_10 post a n (i + 1) x1 x3 (nI i + (-1))
  | 0, x1, x3, _, h => by
    rw [show nr_h a 0 = 0 from rfl, Int64.mul_zero, Int64.add_zero] at h
    exact br_t (by decide) h
  | i + 1, x1, x3, hi, h => by
    have ih := nr_10 (post := post) hn ok i
    have hk := ok i (by omega)
    have er : nI i - nI i / 2 * 2 = nI (i % 2) := pk_rem (d := 2) (by omega) (by decide) (by decide)
    have step : ∀ r : Int32, r = nr_v a i → wX7_inTurns_41 post (wX7_inTurns_10 post a n (i + 1)) x1 x3 (nI i) r.toInt64 a n := by
      intro r e
      refine nm_e (nm_e (nm_e (ih _ _ (by omega) ?_)))
      rw [nr_ring, e]
      exact h
    rw [pk_m1]
    refine br_f (nI_pos (by omega)) ⟨by decide, ?_⟩
    rw [er, nI_clamp (by omega)]
    by_cases p : i % 2 = 0
    · refine br_t (by rw [p]; rfl) ⟨vp_in_nI (by omega) hn, ?_⟩
      exact step (a i >>> ((1 : Int32) &&& 31)) (by rw [nr_half (hk.1 p), show nr_v a i = a i / 2 from if_pos p])
    · have p1 : i % 2 = 1 := by omega
      refine br_f (by rw [p1]; decide) ⟨vp_in_nI (by omega) hn, ?_⟩
      exact nr_inv (hk.2 p1) (step (100 / a i) (show 100 / a i = nr_v a i from (if_neg p).symm))
theorem nr_X7 {post : Int64 → Prop} {a : Nat → Int32} {n : Nat} (hn : n < 2 ^ 31) (ok : nr_ok a n) (h : post (nr_h a n)) : wpX7_inTurns post (a, n) := by
  refine nm_r (show nI n - 1 = nI n + (-1) from Int32.sub_eq_add_neg _ _) ⟨n + 1, nr_10 hn ok n 0 1 (Nat.le_refl n) ?_⟩
  rw [Int64.one_mul, Int64.zero_add]
  exact h
end
section
/-! ===== the law ===== -/
section
variable {post : Int32 → St0 → Prop} {mc ms : Nat} {J : Int32 → (Nat → Int32) → Prop} {x0 : Int32} {x1 x3 : Int64} {kc ks n i : Nat} {am : Nat → Int32}
theorem nr_61 {x7 : Int32} (hi : i < n) (hn : n ≤ 7) (ok : nr_ok am i) (H : ∀ am', nr_ok am' (i + 1) → J (nI (i + 1)) am') : wL_lawOf_61 post mc ms J x0 x1 x3 (nI i) x7 kc ks am n := by
  have er : nI i &&& 1 = nI (i % 2) := pk_andN (by omega) 1 (by decide)
  unfold wL_lawOf_61
  rw [er, nI_clamp (by omega)]
  by_cases p : i % 2 = 0
  · exact br_t (by rw [p]; rfl) (nm_e ⟨vp_in_nI hi (by omega), nm_e (nm_r (nI_1 i) (H _ (nr_put ok (fun _ => nr_and x7) (fun z => absurd p (by omega)))))⟩)
  · have p1 : i % 2 = 1 := by omega
    refine br_f (by rw [p1]; decide) (br_c (fun _ => ⟨vp_in_nI hi (by omega), nm_e (nm_r (nI_1 i) (H _ (nr_put ok (fun z => absurd z p) (fun _ => by decide))))⟩) (fun z7 => ⟨vp_in_nI hi (by omega), nm_e (nm_r (nI_1 i) (H _ (nr_put ok (fun z => absurd z p) (fun _ => z7))))⟩))
theorem nr_41 {z0 : Int64} (hi : i < n) (hn : n ≤ 7) (ok : nr_ok am i) (H : ∀ am', nr_ok am' (i + 1) → J (nI (i + 1)) am') : wL_lawOf_41 post mc ms J x0 x1 x3 (nI i) z0 kc ks am n :=
  br_c (fun _ => nr_61 hi hn ok H) (fun _ => nr_61 hi hn ok H)
theorem nr_11 (hn : n ≤ 7) (hc : kc + 2 ≤ mc) (hs : ks + 1 ≤ ms) (hp : post 1 ()) : ∃ fu, wL_lawOf_11 post mc ms x0 x1 x3 kc ks n fu 0 (fun _ => 0) :=
  pk_loop (fun f i am => wL_lawOf_11 post mc ms x0 x1 x3 kc ks n f (nI i) am) (fun i am => nr_ok am i) n 0 (fun _ => 0) (by omega) (fun j hj => absurd hj (by omega))
    (fun f am ok => br_t (show nI n ≤ nI n from nI_le (Nat.le_refl n) (by omega)) ⟨2, 1, hc, hs, nr_X6 (by omega) (by omega) (by omega) ok (nr_X7 (by omega) ok (br_t rfl hp))⟩)
    (fun f i am hi ok hw => br_f (show ¬ nI n ≤ nI i from nI_ge hi (by omega)) (br_c (fun _ => nr_41 hi hn ok hw) (fun _ => nr_41 hi hn ok hw)))
theorem nr_lawOf {p0 : Int32} {p1 p2 : Int64} (hp : post 1 ()) : wpL_lawOf post 5 80 () p0 p1 p2 := by
  obtain ⟨j, hj, e⟩ := pk_andE p0 (m := 7) 3 (by decide)
  unfold wpL_lawOf
  rw [e]
  exact ⟨nI_pos (by omega), nm_r (nI_clamp (by omega)) ⟨by omega, by decide, by omega, nr_11 (by omega) (by omega) (by omega) hp⟩⟩
end
theorem nr_cell {post : Int32 → Prop} {L : Nat} {xs : Nat → Int32} (k : Nat) (hL : L ≤ 5) (hk : k ≤ 4) (h : ∀ r, post r) : wpL_cellAt post L xs () (nI k) :=
  pk_le L k (fun _ => h _) (fun z => ⟨pk_in k L z, h _⟩)
theorem i_vc (xs : Nat → Int32) (L : Nat) (hL : L ≤ 5) : wpL_law (fun r => r = 1) L xs :=
  nr_cell 0 hL (by omega) (fun _ => nr_cell 1 hL (by omega) (fun _ => nr_cell 2 hL (by omega) (fun _ => nr_cell 3 hL (by omega) (fun _ => nr_cell 4 hL (by omega) (fun _ => ⟨5, 80, by omega, by omega, nr_lawOf rfl⟩)))))
end
