section
/-! the plain facts: numbers, the two layouts (rows of 8 cells, rows of w cells), one write (pk_ rows: pasted from kit/rows) -/
theorem pk_us {f : Nat → Int32} {k : Nat} {x : Int32} : upd f k x k = x := if_pos rfl
theorem pk_un {f : Nat → Int32} {k j : Nat} {x : Int32} (h : j ≠ k) : upd f k x j = f j := if_neg h
theorem pk_mul (a b : Nat) : nI a * nI b = nI (a * b) := (Int32.ofNat_mul a b).symm
theorem rc_8 : nI 8 = 8 := by decide +kernel
theorem rc_lt {w h i j : Nat} (hw : w ≤ 8) (hh : h ≤ 8) (hi : i < w) (hj : j < h) : j * w + i < 64 := by
  have q : j * w ≤ 7 * w := Nat.mul_le_mul_right w (by omega)
  omega
theorem rc_inj {w i j i' j' : Nat} (hi : i < w) (hi' : i' < w) (e : j' * w + i' = j * w + i) : j' = j ∧ i' = i := by
  rcases Nat.lt_trichotomy j' j with h | h | h
  · have q : (j' + 1) * w ≤ j * w := Nat.mul_le_mul_right w h
    rw [Nat.add_mul, Nat.one_mul] at q
    omega
  · subst h
    exact ⟨rfl, by omega⟩
  · have q : (j + 1) * w ≤ j' * w := Nat.mul_le_mul_right w h
    rw [Nat.add_mul, Nat.one_mul] at q
    omega
/-- the two pictures hold the same w by h cells: a in rows of 8, b in rows of w -/
def rc_R (w h : Nat) (a b : Nat → Int32) : Prop := ∀ j i : Nat, j < h → i < w → b (j * w + i) = a (j * 8 + i)
theorem rc_put {w h j i : Nat} {a b : Nat → Int32} (c : Int32) (hw : w ≤ 8) (hi : i < w) (R : rc_R w h a b) : rc_R w h (upd a (j * 8 + i) c) (upd b (j * w + i) c) := by
  intro j' i' hj' hi'
  by_cases e : j' = j ∧ i' = i
  · obtain ⟨rfl, rfl⟩ := e
    rw [pk_us, pk_us]
  · rw [pk_un (fun z => e (rc_inj hi hi' z)), pk_un (fun z => e (rc_inj (w := 8) (by omega) (by omega) z)), R j' i' hj' hi']
theorem rc_ex (j i : Nat) : nI j * 8 + nI i = nI (j * 8 + i) := by rw [← rc_8, pk_mul, nI_add]
theorem rc_ey (j w i : Nat) : nI j * nI w + nI i = nI (j * w + i) := by rw [pk_mul, nI_add]
section
variable {w h i j : Nat}
theorem rc_inX (hw : w ≤ 8) (hh : h ≤ 8) (hi : i < w) (hj : j < h) : vp_in (nI j * 8 + nI i) 64 := by
  rw [rc_ex]
  exact vp_in_nI (by omega) (by omega)
theorem rc_inY (hw : w ≤ 8) (hh : h ≤ 8) (hi : i < w) (hj : j < h) : vp_in (nI j * nI w + nI i) 64 := by
  rw [rc_ey]
  exact vp_in_nI (rc_lt hw hh hi hj) (by omega)
theorem rc_clX (hw : w ≤ 8) (hh : h ≤ 8) (hi : i < w) (hj : j < h) : (nI j * 8 + nI i).toNatClampNeg = j * 8 + i := by
  rw [rc_ex, nI_clamp (by omega)]
theorem rc_clY (hw : w ≤ 8) (hh : h ≤ 8) (hi : i < w) (hj : j < h) : (nI j * nI w + nI i).toNatClampNeg = j * w + i := by
  have q := rc_lt hw hh hi hj
  rw [rc_ey, nI_clamp (by omega)]
end
/-- a clamped argument -/
theorem rc_clamp (x : Int32) : (¬ 0 ≤ x) ∨ (0 ≤ x ∧ ¬ x ≤ 8) ∨ (0 ≤ x ∧ x ≤ 8 ∧ ∃ w : Nat, w ≤ 8 ∧ x = nI w) := by
  by_cases h0 : 0 ≤ x
  · by_cases h8 : x ≤ 8
    · obtain ⟨w, hw, rfl⟩ := nI_of (x := x) (Int32.not_lt.mpr h0)
      refine Or.inr (Or.inr ⟨h0, h8, w, ?_, rfl⟩)
      rw [← rc_8, nI_leI hw (by omega)] at h8
      exact h8
    · exact Or.inr (Or.inl ⟨h0, h8⟩)
  · exact Or.inl h0
end
section
/-! the loops in lockstep: one outcome for both sides, for all posts -/
theorem rc_frow {w h j : Nat} (hw : w ≤ 8) (hh : h ≤ 8) (hj : j < h) (x1 x2 x3 x4 x5 s : Int32) (g1 : ¬ nI j < x2) (g2 : ¬ x4 < nI j) :
    ∀ (d i : Nat) (c : Int32) (a b : Nat → Int32), i + d = w → rc_R w h a b → ∃ (c' : Int32) (a' b' : Nat → Int32), rc_R w h a' b' ∧
      (∀ (post : Int32 → SX → Prop) (J : Int32 → Int32 → (Nat → Int32) → Prop), J c' (nI (j + 1)) a' → wX_fill_44 post J x1 x2 x3 x4 x5 (nI j) (nI w) (nI h) (d + 1) c (nI i) a) ∧
      (∀ (post : Int32 → SY → Prop) (J : Int32 → Int32 → (Nat → Int32) → Prop), J c' (nI (j + 1)) b' → wY_fill_31 post J x1 x2 x3 x4 x5 (nI j) (nI w) (nI h) s (d + 1) c (nI i) b) := by
  intro d
  induction d with
  | zero =>
    intro i c a b hi R
    have q : nI w ≤ nI i := nI_le (by omega) (by omega)
    exact ⟨c, a, b, R, fun _ _ H => br_t q (nm_r (nI_1 j) H), fun _ _ H => br_t q (nm_r (nI_1 j) H)⟩
  | succ d ih =>
    intro i c a b hi R
    have q : ¬ nI w ≤ nI i := nI_ge (by omega) (by omega)
    have hi' : i < w := by omega
    by_cases p1 : nI i < x1
    · obtain ⟨c', a', b', R', HX, HY⟩ := ih (i + 1) c a b (by omega) R
      exact ⟨c', a', b', R', fun post J H => br_f q (br_t p1 (nm_r (nI_1 i) (HX post J H))), fun post J H => br_f q (br_t p1 (nm_r (nI_1 i) (HY post J H)))⟩
    · by_cases p3 : x3 < nI i
      · obtain ⟨c', a', b', R', HX, HY⟩ := ih (i + 1) c a b (by omega) R
        exact ⟨c', a', b', R', fun post J H => br_f q (br_f p1 (br_t p3 (nm_r (nI_1 i) (HX post J H)))), fun post J H => br_f q (br_f p1 (br_t p3 (nm_r (nI_1 i) (HY post J H))))⟩
      · obtain ⟨c', a', b', R', HX, HY⟩ := ih (i + 1) (c + 1) (upd a (j * 8 + i) x5) (upd b (j * w + i) x5) (by omega) (rc_put x5 hw hi' R)
        have eX : upd a (nI j * 8 + nI i).toNatClampNeg x5 = upd a (j * 8 + i) x5 := by rw [rc_clX hw hh hi' hj]
        have eY : upd b (nI j * nI w + nI i).toNatClampNeg x5 = upd b (j * w + i) x5 := by rw [rc_clY hw hh hi' hj]
        exact ⟨c', a', b', R',
          fun post J H => br_f q (br_f p1 (br_f p3 ⟨rc_inX hw hh hi' hj, nm_r eX (nm_e (nm_r (nI_1 i) (HX post J H)))⟩)),
          fun post J H => br_f q (br_f p1 (br_f p3 (br_f g1 (br_f g2 ⟨rc_inY hw hh hi' hj, nm_r eY (nm_e (nm_r (nI_1 i) (HY post J H)))⟩))))⟩
/-- a row out of the rectangle: the reference walks it and stores nothing -/
theorem rc_fskip {w h j : Nat} (hw : w ≤ 8) (x1 x2 x3 x4 x5 s : Int32) (g : nI j < x2 ∨ x4 < nI j) (post : Int32 → SY → Prop) (J : Int32 → Int32 → (Nat → Int32) → Prop) (c : Int32) (b : Nat → Int32) (H : J c (nI (j + 1)) b) :
    ∀ (d i : Nat), i + d = w → wY_fill_31 post J x1 x2 x3 x4 x5 (nI j) (nI w) (nI h) s (d + 1) c (nI i) b := by
  intro d
  induction d with
  | zero =>
    intro i hi
    have q : nI w ≤ nI i := nI_le (by omega) (by omega)
    exact br_t q (nm_r (nI_1 j) H)
  | succ d ih =>
    intro i hi
    have q : ¬ nI w ≤ nI i := nI_ge (by omega) (by omega)
    have K := ih (i + 1) (by omega)
    by_cases p1 : nI i < x1
    · exact br_f q (br_t p1 (nm_r (nI_1 i) K))
    · by_cases p3 : x3 < nI i
      · exact br_f q (br_f p1 (br_t p3 (nm_r (nI_1 i) K)))
      · by_cases g1 : nI j < x2
        · exact br_f q (br_f p1 (br_f p3 (br_t g1 (nm_r (nI_1 i) K))))
        · have g2 : x4 < nI j := g.resolve_left g1
          exact br_f q (br_f p1 (br_f p3 (br_f g1 (br_t g2 (nm_r (nI_1 i) K)))))
theorem rc_fill {w h : Nat} (hw : w ≤ 8) (hh : h ≤ 8) (x1 x2 x3 x4 x5 s : Int32) :
    ∀ (d j : Nat) (c : Int32) (a b : Nat → Int32), j + d = h → rc_R w h a b → ∃ (c' : Int32) (a' b' : Nat → Int32), rc_R w h a' b' ∧
      (∀ post : Int32 → SX → Prop, post c' (nI w, nI h, a') → wX_fill_19 post x1 x2 x3 x4 x5 (nI w) (nI h) (d + 1) c (nI j) a) ∧
      (∀ post : Int32 → SY → Prop, post c' (nI w, nI h, s, b') → wY_fill_19 post x1 x2 x3 x4 x5 (nI w) (nI h) s (d + 1) c (nI j) b) := by
  intro d
  induction d with
  | zero =>
    intro j c a b hj R
    have q : nI h ≤ nI j := nI_le (by omega) (by omega)
    exact ⟨c, a, b, R, fun _ H => br_t q H, fun _ H => br_t q H⟩
  | succ d ih =>
    intro j c a b hj R
    have q : ¬ nI h ≤ nI j := nI_ge (by omega) (by omega)
    by_cases g1 : nI j < x2
    · obtain ⟨c', a', b', R', HX, HY⟩ := ih (j + 1) c a b (by omega) R
      exact ⟨c', a', b', R', fun post H => br_f q (br_t g1 (nm_r (nI_1 j) (HX post H))), fun post H => br_f q ⟨w + 1, rc_fskip hw x1 x2 x3 x4 x5 s (Or.inl g1) post _ c b (HY post H) w 0 (Nat.zero_add w)⟩⟩
    · by_cases g2 : x4 < nI j
      · obtain ⟨c', a', b', R', HX, HY⟩ := ih (j + 1) c a b (by omega) R
        exact ⟨c', a', b', R', fun post H => br_f q (br_f g1 (br_t g2 (nm_r (nI_1 j) (HX post H)))), fun post H => br_f q ⟨w + 1, rc_fskip hw x1 x2 x3 x4 x5 s (Or.inr g2) post _ c b (HY post H) w 0 (Nat.zero_add w)⟩⟩
      · obtain ⟨c1, a1, b1, R1, KX, KY⟩ := rc_frow hw hh (j := j) (by omega) x1 x2 x3 x4 x5 s g1 g2 w 0 c a b (Nat.zero_add w) R
        obtain ⟨c', a', b', R', HX, HY⟩ := ih (j + 1) c1 a1 b1 (by omega) R1
        exact ⟨c', a', b', R', fun post H => br_f q (br_f g1 (br_f g2 ⟨w + 1, KX post _ (HX post H)⟩)), fun post H => br_f q ⟨w + 1, KY post _ (HY post H)⟩⟩
/-- one row counted: the component by its inner loop, the reference by w turns of its only loop -/
theorem rc_lrow {w h j : Nat} (hw : w ≤ 8) (hh : h ≤ 8) (hj : j < h) {a b : Nat → Int32} (R : rc_R w h a b) :
    ∀ (d i : Nat) (c : Int32), i + d = w → ∃ c' : Int32,
      (∀ (post : Int32 → Prop) (J : Int32 → Int32 → Prop), J c' (nI (j + 1)) → wX_lit_14 post J (nI j) (nI w) (nI h) a (d + 1) c (nI i)) ∧
      (∀ (post : Int32 → Prop) (n : Nat), wY_lit_4 post (nI w) (nI h) (nI (h * w)) b n c' (nI (j * w + w)) → wY_lit_4 post (nI w) (nI h) (nI (h * w)) b (n + d) c (nI (j * w + i))) := by
  intro d
  induction d with
  | zero =>
    intro i c hi
    have q : nI w ≤ nI i := nI_le (by omega) (by omega)
    have e : i = w := by omega
    subst e
    exact ⟨c, fun _ _ H => br_t q (nm_r (nI_1 j) H), fun _ _ H => H⟩
  | succ d ih =>
    intro i c hi
    have q : ¬ nI w ≤ nI i := nI_ge (by omega) (by omega)
    have hi' : i < w := by omega
    have l1 : j * w + i < 64 := rc_lt hw hh hi' hj
    have l2 : (j + 1) * w ≤ h * w := Nat.mul_le_mul_right w hj
    have l3 : h * w ≤ 8 * w := Nat.mul_le_mul_right w hh
    rw [Nat.add_mul, Nat.one_mul] at l2
    have q2 : ¬ nI (h * w) ≤ nI (j * w + i) := nI_ge (by omega) (by omega)
    have v2 : vp_in (nI (j * w + i)) 64 := vp_in_nI l1 (by omega)
    have r1 : a (nI j * 8 + nI i).toNatClampNeg = a (j * 8 + i) := by rw [rc_clX hw hh hi' hj]
    have r2 : b (nI (j * w + i)).toNatClampNeg = a (j * 8 + i) := by rw [nI_clamp (by omega), R j i hj hi']
    by_cases z : a (j * 8 + i) = 0
    · obtain ⟨c', HX, HY⟩ := ih (i + 1) c (by omega)
      exact ⟨c', fun post J H => br_f q ⟨rc_inX hw hh hi' hj, br_t (r1.trans z) (nm_r (nI_1 i) (HX post J H))⟩,
        fun post n H => br_f q2 ⟨v2, br_t (r2.trans z) (nm_r (nI_1 (j * w + i)) (HY post n H))⟩⟩
    · obtain ⟨c', HX, HY⟩ := ih (i + 1) (c + 1) (by omega)
      exact ⟨c', fun post J H => br_f q ⟨rc_inX hw hh hi' hj, br_f (fun y => z (r1.symm.trans y)) (nm_e (nm_r (nI_1 i) (HX post J H)))⟩,
        fun post n H => br_f q2 ⟨v2, br_f (fun y => z (r2.symm.trans y)) (nm_e (nm_r (nI_1 (j * w + i)) (HY post n H)))⟩⟩
theorem rc_lit {w h : Nat} (hw : w ≤ 8) (hh : h ≤ 8) {a b : Nat → Int32} (R : rc_R w h a b) :
    ∀ (d j : Nat) (c : Int32), j + d = h → ∃ (c' : Int32) (m : Nat),
      (∀ post : Int32 → Prop, post c' → wX_lit_4 post (nI w) (nI h) a (d + 1) c (nI j)) ∧
      (∀ post : Int32 → Prop, post c' → wY_lit_4 post (nI w) (nI h) (nI (h * w)) b m c (nI (j * w))) := by
  intro d
  induction d with
  | zero =>
    intro j c hj
    have e : j = h := by omega
    subst e
    have l3 : j * w ≤ 8 * w := Nat.mul_le_mul_right w hh
    have q : nI j ≤ nI j := nI_le (by omega) (by omega)
    have q2 : nI (j * w) ≤ nI (j * w) := nI_le (by omega) (by omega)
    exact ⟨c, 1, fun _ H => br_t q H, fun _ H => br_t q2 H⟩
  | succ d ih =>
    intro j c hj
    have q : ¬ nI h ≤ nI j := nI_ge (by omega) (by omega)
    obtain ⟨c1, KX, KY⟩ := rc_lrow hw hh (j := j) (by omega) R w 0 c (Nat.zero_add w)
    obtain ⟨c', m, HX, HY⟩ := ih (j + 1) c1 (by omega)
    refine ⟨c', m + w, fun post H => br_f q ⟨w + 1, KX post _ (HX post H)⟩, fun post H => ?_⟩
    have K := HY post H
    rw [Nat.add_mul, Nat.one_mul] at K
    exact KY post m K
end
section
/-! what is owed (the statements began as those of the claim's given text) -/
/-- one width, one height, both at most 8; the reference's size is their product; the same cells in two layouts -/
def i_Rel (k : Nat) (u : SX) (v : SY) : Prop := ∃ (w h : Nat) (a b : Nat → Int32), w ≤ 8 ∧ h ≤ 8 ∧ rc_R w h a b ∧ u = (nI w, nI h, a) ∧ v = (nI w, nI h, nI (h * w), b)
theorem i_up {k : Nat} {u : SX} {v : SY} (h : i_Rel k u v) : i_Rel (k + 6) u v := h
theorem rc_iw (k0 : Int32) : ∃ w : Nat, w ≤ 8 ∧
    (∀ (post : SX → Prop) (k1 : Int32), wX_init_29 post k1 (nI w) 0 0 (fun _ => 0) → wpX_init post k0 k1) ∧
    (∀ (post : SY → Prop) (k1 : Int32), wY_init_25 post k1 (nI w) 0 0 0 → wpY_init post k0 k1) := by
  rcases rc_clamp k0 with h | ⟨h0, h8⟩ | ⟨h0, h8, w, hw, rfl⟩
  · exact ⟨0, by omega, fun post k1 H => br_f h (br_t (by decide) H), fun post k1 H => br_f h H⟩
  · exact ⟨8, by omega, fun post k1 H => br_t h0 (br_f h8 H), fun post k1 H => br_t h0 (br_f h8 H)⟩
  · exact ⟨w, hw, fun post k1 H => br_t h0 (br_t h8 H), fun post k1 H => br_t h0 (br_t h8 H)⟩
theorem rc_ih (k1 : Int32) : ∃ h : Nat, h ≤ 8 ∧
    (∀ (post : SX → Prop) (z f g : Int32) (a : Nat → Int32), post (z, nI h, a) → wX_init_29 post k1 z f g a) ∧
    (∀ (post : SY → Prop) (z e f g : Int32), post (z, nI h, z * nI h, fun _ => 0) → wY_init_25 post k1 z e f g) := by
  rcases rc_clamp k1 with h | ⟨h0, h8⟩ | ⟨h0, h8, w, hw, rfl⟩
  · exact ⟨0, by omega, fun post z f g a H => br_f h (br_t (by decide) H), fun post z e f g H => br_f h (nm_e H)⟩
  · exact ⟨8, by omega, fun post z f g a H => br_t h0 (br_f h8 H), fun post z e f g H => br_t h0 (br_f h8 (nm_e H))⟩
  · exact ⟨w, hw, fun post z f g a H => br_t h0 (br_t h8 H), fun post z e f g H => br_t h0 (br_t h8 (nm_e H))⟩
theorem i_vc0 (k0 : Int32) (k1 : Int32) : wpX_init (fun u => wpY_init (fun v => i_Rel 2 u v) k0 k1) k0 k1 := by
  obtain ⟨w, hw, WX, WY⟩ := rc_iw k0
  obtain ⟨h, hh, HX, HY⟩ := rc_ih k1
  refine WX _ _ (HX _ _ _ _ _ (WY _ _ (HY _ _ _ _ _ ?_)))
  exact ⟨w, h, fun _ => 0, fun _ => 0, hw, hh, fun _ _ _ _ => rfl, rfl, by rw [pk_mul, Nat.mul_comm]⟩
theorem i_vc_width {k : Nat} {u : SX} {v : SY} (I : i_Rel k u v) (hk : k + 6 ≤ 3074) : wpX_width (fun r => wpY_width (fun r' => r' = r ∧ i_Rel (k + 6) u v) v) u := by
  obtain ⟨w, h, a, b, hw, hh, R, rfl, rfl⟩ := I
  exact ⟨rfl, w, h, a, b, hw, hh, R, rfl, rfl⟩
theorem i_vc_height {k : Nat} {u : SX} {v : SY} (I : i_Rel k u v) (hk : k + 6 ≤ 3074) : wpX_height (fun r => wpY_height (fun r' => r' = r ∧ i_Rel (k + 6) u v) v) u := by
  obtain ⟨w, h, a, b, hw, hh, R, rfl, rfl⟩ := I
  exact ⟨rfl, w, h, a, b, hw, hh, R, rfl, rfl⟩
theorem i_vc_fill {k : Nat} {u : SX} {v : SY} (I : i_Rel k u v) (hk : k + 6 ≤ 3074) (v1 : Int32) (v2 : Int32) (v3 : Int32) (v4 : Int32) (v5 : Int32) : wpX_fill (fun r u' => wpY_fill (fun r' v' => r' = r ∧ i_Rel (k + 6) u' v') v v1 v2 v3 v4 v5) u v1 v2 v3 v4 v5 := by
  obtain ⟨w, h, a, b, hw, hh, R, rfl, rfl⟩ := I
  by_cases e1 : v3 < v1
  · exact br_t e1 (br_t e1 ⟨rfl, w, h, a, b, hw, hh, R, rfl, rfl⟩)
  · by_cases e2 : v2 ≤ v4
    · obtain ⟨c, a', b', R', HX, HY⟩ := rc_fill hw hh v1 v2 v3 v4 v5 (nI (h * w)) h 0 0 a b (Nat.zero_add h) R
      exact br_f e1 (br_t e2 ⟨h + 1, HX _ (br_f e1 (br_t e2 ⟨h + 1, HY _ ⟨rfl, w, h, a', b', hw, hh, R', rfl, rfl⟩⟩))⟩)
    · exact br_f e1 (br_f e2 (br_f e1 (br_f e2 ⟨rfl, w, h, a, b, hw, hh, R, rfl, rfl⟩)))
theorem i_vc_peek {k : Nat} {u : SX} {v : SY} (I : i_Rel k u v) (hk : k + 6 ≤ 3074) (v1 : Int32) (v2 : Int32) : wpX_peek (fun r => wpY_peek (fun r' => r' = r ∧ i_Rel (k + 6) u v) v v1 v2) u v1 v2 := by
  have I' := i_up I
  obtain ⟨w, h, a, b, hw, hh, R, rfl, rfl⟩ := I
  by_cases e1 : v1 < 0
  · exact br_t e1 (br_t e1 ⟨rfl, I'⟩)
  · by_cases e2 : nI w ≤ v1
    · exact br_f e1 (br_t e2 (br_f e1 (br_t e2 ⟨rfl, I'⟩)))
    · by_cases e3 : v2 < 0
      · exact br_f e1 (br_f e2 (br_t e3 (br_f e1 (br_f e2 (br_t e3 ⟨rfl, I'⟩)))))
      · by_cases e4 : nI h ≤ v2
        · exact br_f e1 (br_f e2 (br_f e3 (br_t e4 (br_f e1 (br_f e2 (br_f e3 (br_f (Int32.not_lt.mpr e4) ⟨rfl, I'⟩)))))))
        · have e5 : v2 < nI h := Int32.not_le.mp e4
          obtain ⟨i, hi, rfl⟩ := nI_of e1
          obtain ⟨j, hj, rfl⟩ := nI_of e3
          have hi' : i < w := (nI_ltI hi (by omega)).mp (Int32.not_le.mp e2)
          have hj' : j < h := (nI_ltI hj (by omega)).mp e5
          have r : b (nI j * nI w + nI i).toNatClampNeg = a (nI j * 8 + nI i).toNatClampNeg := by
            rw [rc_clX hw hh hi' hj', rc_clY hw hh hi' hj', R j i hj' hi']
          exact br_f e1 (br_f e2 (br_f e3 (br_f e4 ⟨rc_inX hw hh hi' hj', br_f e1 (br_f e2 (br_f e3 (br_t e5 ⟨rc_inY hw hh hi' hj', r, I'⟩)))⟩)))
theorem i_vc_lit {k : Nat} {u : SX} {v : SY} (I : i_Rel k u v) (hk : k + 6 ≤ 3074) : wpX_lit (fun r => wpY_lit (fun r' => r' = r ∧ i_Rel (k + 6) u v) v) u := by
  have I' := i_up I
  obtain ⟨w, h, a, b, hw, hh, R, rfl, rfl⟩ := I
  obtain ⟨c, m, HX, HY⟩ := rc_lit hw hh R h 0 0 (Nat.zero_add h)
  rw [Nat.zero_mul] at HY
  exact ⟨h + 1, HX _ ⟨m, HY _ ⟨rfl, I'⟩⟩⟩
end
