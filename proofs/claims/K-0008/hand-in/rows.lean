section
/-- every cell holds a short -/
def kp_S (a : Nat → Int32) : Prop := ∀ j : Nat, narrow .short (.int (a j)) = .int (a j)
theorem kp_z : (0 : Int32).toInt16.toInt32 = 0 := by decide
theorem kp_S0 : kp_S (fun _ => 0) := fun _ => congrArg Value.int kp_z
theorem kp_nar (x : Int32) : narrow .short (.int (vp_nar .short x)) = .int (vp_nar .short x) := by
  rw [vp_nar_short]
  exact lw_i16_n x
theorem kp_Su {a : Nat → Int32} (h : kp_S a) (k : Nat) (x : Int32) : kp_S (upd a k (vp_nar .short x)) := by
  intro j
  by_cases e : j = k
  · have z : upd a k (vp_nar .short x) j = vp_nar .short x := if_pos e
    rw [z]
    exact kp_nar x
  · have z : upd a k (vp_nar .short x) j = a j := if_neg e
    rw [z]
    exact h j
theorem kp_us (a : Nat → Int32) (k : Nat) (x : Int32) : upd a k x k = x := if_pos rfl
theorem kp_uu (a : Nat → Int32) (k : Nat) (x y : Int32) : upd (upd a k x) k y = upd a k y := by
  funext j
  by_cases e : j = k
  · exact (if_pos e : upd (upd a k x) k y j = y).trans (if_pos e : upd a k y j = y).symm
  · exact ((if_neg e : upd (upd a k x) k y j = upd a k x j).trans (if_neg e : upd a k x j = a j)).trans (if_neg e : upd a k y j = a j).symm
/-- a short less an int, cut to a short: the cut of the first changes nothing -/
theorem kp_sub (m s : Int32) : vp_nar .short ((vp_nar .short m.toInt16.toInt32 - s).toInt16.toInt32) = vp_nar .short ((m - s).toInt16.toInt32) := by
  simp only [vp_nar_short, Int32.toInt16_sub, Int16.toInt16_toInt32]
/-- the mean of two cells, and what is stored for it -/
def kp_m (x y : Int32) : Int32 := (x + y) >>> ((1 : Int32) &&& 31)
def kp_w (m : Int32) : Int32 := vp_nar .short ((m - (m >>> ((5 : Int32) &&& 31))).toInt16.toInt32)
theorem kp_cl {x : Int32} (h2 : 2 ≤ x) (h3 : x ≤ 32) : ∃ l : Nat, l ≤ 32 ∧ 0 < l ∧ x = nI l := by
  have e2 : (2 : Int32).toInt = 2 := by decide
  have h0 : ¬ x < 0 := by
    intro z
    have a := Int32.le_iff_toInt_le.mp h2
    have b := Int32.lt_iff_toInt_lt.mp z
    rw [e2] at a
    rw [Int32.toInt_zero] at b
    omega
  obtain ⟨j, hj, rfl⟩ := nI_of2 (M := 32) (n := 32) (by decide) h0 h3
  refine ⟨j, hj, ?_, rfl⟩
  have a := Int32.le_iff_toInt_le.mp h2
  rw [e2, nI_toInt (by omega)] at a
  omega
theorem kp_2 : nI 2 = 2 := by decide +kernel
theorem kp_32 : nI 32 = 32 := by decide +kernel
/-- the clamp into 2..32, as both sides write it -/
theorem kp_clamp (x : Int32) : ∃ l : Nat, l ≤ 32 ∧ 0 < l ∧ ∀ P : Int32 → Prop, P (nI l) → (2 ≤ x → (x ≤ 32 → P x) ∧ (¬ x ≤ 32 → P 32)) ∧ (¬ 2 ≤ x → ((2 : Int32) ≤ 32 → P 2) ∧ (¬ (2 : Int32) ≤ 32 → P 32)) := by
  by_cases h2 : 2 ≤ x
  · by_cases h3 : x ≤ 32
    · obtain ⟨l, hl, h0, rfl⟩ := kp_cl h2 h3
      exact ⟨l, hl, h0, fun P h => br_t h2 (br_t h3 h)⟩
    · exact ⟨32, Nat.le_refl _, by decide, fun P h => br_t h2 (br_f h3 (kp_32 ▸ h))⟩
  · exact ⟨2, by decide, by decide, fun P h => br_f h2 (br_t (by decide) (kp_2 ▸ h))⟩
end
section
theorem kp_pluck (l p : Int32) : ∀ d i : Nat, i + d = 32 → ∀ (z : Int32) (a : Nat → Int32), kp_S a → ∃ (r : Int32) (b : Nat → Int32), kp_S b ∧ (∀ post : Int32 → SX → Prop, post r (l, 0, b) → wX_pluck_4 post l p (d + 1) z (nI i) a) ∧ (∀ post : Int32 → SY → Prop, post r (l, 0, b) → wY_pluck_4 post l p (d + 1) z (nI i) a) := by
  intro d
  induction d with
  | zero =>
    intro i hi z a hS
    have h : (32 : Int32) ≤ nI i := by rw [← kp_32]; exact nI_le (by omega) (by omega)
    exact ⟨z, a, hS, fun _ hp => br_t h hp, fun _ hp => br_t h hp⟩
  | succ d ih =>
    intro i hi z a hS
    have h : ¬ (32 : Int32) ≤ nI i := by rw [← kp_32]; exact nI_ge (by omega) (by omega)
    have hv : vp_in (nI i) 32 := vp_in_nI (by omega) (by omega)
    have hc : (nI i).toNatClampNeg = i := nI_clamp (by omega)
    obtain ⟨r, b, hb, hX, hY⟩ := ih (i + 1) (by omega) (z * 1103515245 + 12345) (upd a i (vp_nar .short (((z * 1103515245 + 12345) >>> ((16 : Int32) &&& 31)).toInt16.toInt32))) (kp_Su hS _ _)
    refine ⟨r, b, hb, fun post hp => br_f h fun y ey => ⟨hv, fun c ec => fun j ej => ?_⟩, fun post hp => br_f h fun y ey => ⟨hv, fun c ec => fun j ej => ?_⟩⟩
    · rw [ej, ec, ey, hc, nI_1 i]
      exact hX post hp
    · rw [ej, ec, ey, hc, nI_1 i]
      exact hY post hp
theorem kp_tX {post : Int32 → SX → Prop} {x l : Int32} {p q : Nat} {a : Nat → Int32} (hp : p < 32) (hq : q < 32) (hx : narrow .short (.int x) = .int x) (h : post x (l, nI q, upd a p (kp_w (kp_m x (a q))))) : wX_tick_27 post x (nI q) l (nI p) a := by
  unfold wX_tick_27
  have cp : (nI p).toNatClampNeg = p := nI_clamp (by omega)
  have cq : (nI q).toNatClampNeg = q := nI_clamp (by omega)
  refine ⟨vp_in_nI hq (by omega), fun m em => ⟨vp_in_nI hp (by omega), fun b eb => ⟨hx, ?_⟩⟩⟩
  rw [cq] at em
  rw [cp] at eb
  rw [eb, em]
  exact h
theorem kp_tY {post : Int32 → SY → Prop} {x l : Int32} {p q : Nat} {a : Nat → Int32} (hp : p < 32) (hq : q < 32) (hx : narrow .short (.int x) = .int x) (h : post x (l, nI q, upd a p (kp_w (kp_m x (a q))))) : wY_tick_27 post x (nI q) l (nI p) a := by
  unfold wY_tick_27
  have cp : (nI p).toNatClampNeg = p := nI_clamp (by omega)
  have cq : (nI q).toNatClampNeg = q := nI_clamp (by omega)
  have vp : vp_in (nI p) 32 := vp_in_nI hp (by omega)
  refine ⟨vp_in_nI hq (by omega), fun m em => ⟨vp, fun b eb => ⟨vp, vp, fun c ec => ⟨hx, ?_⟩⟩⟩⟩
  rw [cq] at em
  rw [cp] at eb ec
  rw [eb, kp_us, kp_sub, kp_uu, em] at ec
  rw [ec]
  exact h
theorem kp_tick {l p : Nat} {a : Nat → Int32} (hl : l ≤ 32) (hp : p < l) (hS : kp_S a) : ∃ (q : Nat) (b : Nat → Int32), q < l ∧ kp_S b ∧ (∀ post : Int32 → SX → Prop, post (a p) (nI l, nI q, b) → wpX_tick post (nI l, nI p, a)) ∧ (∀ post : Int32 → SY → Prop, post (a p) (nI l, nI q, b) → wpY_tick post (nI l, nI p, a)) := by
  have cp : (nI p).toNatClampNeg = p := nI_clamp (by omega)
  have vp : vp_in (nI p) 32 := vp_in_nI (by omega) (by omega)
  by_cases h : p + 1 < l
  · have hn : nI (p + 1) < nI l := nI_lt h (by omega)
    refine ⟨p + 1, upd a p (kp_w (kp_m (a p) (a (p + 1)))), h, kp_Su hS _ _, fun post hq => And.intro vp fun x ex y ey => ?_, fun post hq => And.intro vp fun x ex y ey => ?_⟩
    · rw [cp] at ex
      rw [nI_1 p] at ey
      rw [ex, ey]
      exact br_t hn (kp_tX (by omega) (by omega) (hS p) hq)
    · rw [cp] at ex
      rw [nI_1 p] at ey
      rw [ex, ey]
      exact br_t hn (kp_tY (by omega) (by omega) (hS p) hq)
  · have hn : ¬ nI (p + 1) < nI l := nI_nlt (by omega) (by omega)
    refine ⟨0, upd a p (kp_w (kp_m (a p) (a 0))), by omega, kp_Su hS _ _, fun post hq => And.intro vp fun x ex y ey => ?_, fun post hq => And.intro vp fun x ex y ey => ?_⟩
    · rw [cp] at ex
      rw [nI_1 p] at ey
      rw [ex, ey]
      exact br_f hn (nI_0 ▸ kp_tX (by omega) (by omega) (hS p) hq)
    · rw [cp] at ex
      rw [nI_1 p] at ey
      rw [ex, ey]
      exact br_f hn (nI_0 ▸ kp_tY (by omega) (by omega) (hS p) hq)
theorem kp_setL {l p : Nat} {a : Nat → Int32} (hl : l ≤ 32) (hp : p < l) (x : Int32) : ∃ m q : Nat, m ≤ 32 ∧ q < m ∧ (∀ post : Int32 → SX → Prop, post (nI m) (nI m, nI q, a) → wpX_setLength post (nI l, nI p, a) x) ∧ (∀ post : Int32 → SY → Prop, post (nI m) (nI m, nI q, a) → wpY_setLength post (nI l, nI p, a) x) := by
  obtain ⟨m, hm, h0, hc⟩ := kp_clamp x
  by_cases h : p < m
  · have hn : nI p < nI m := nI_lt h (by omega)
    exact ⟨m, p, hm, h, fun post hq => hc (fun y => wX_setLength_18 post y (nI l) (nI p) a) (br_t hn hq), fun post hq => hc (fun y => wY_setLength_16 post y (nI l) (nI p) a) (br_t hn hq)⟩
  · have hn : ¬ nI p < nI m := nI_nlt (by omega) (by omega)
    exact ⟨m, 0, hm, h0, fun post hq => hc (fun y => wX_setLength_18 post y (nI l) (nI p) a) (br_f hn hq), fun post hq => hc (fun y => wY_setLength_16 post y (nI l) (nI p) a) (br_f hn hq)⟩
end
section
/-- the two objects are in one state: a length of at most 32, a position below it, 32 shorts -/
def i_Rel (_ : Nat) (u : SX) (v : SY) : Prop := ∃ (l p : Nat) (a : Nat → Int32), u = (nI l, nI p, a) ∧ v = (nI l, nI p, a) ∧ l ≤ 32 ∧ p < l ∧ kp_S a
theorem kp_mk {k l p : Nat} {a : Nat → Int32} (hl : l ≤ 32) (hp : p < l) (hS : kp_S a) : i_Rel k (nI l, nI p, a) (nI l, nI p, a) := ⟨l, p, a, rfl, rfl, hl, hp, hS⟩
theorem i_up {k : Nat} {u : SX} {v : SY} (h : i_Rel k u v) : i_Rel (k + 2) u v := h
theorem i_vc0 (k0 : Int32) : wpX_init (fun u => wpY_init (fun v => i_Rel 1 u v) k0) k0 := by
  obtain ⟨l, hl, h0, hc⟩ := kp_clamp k0
  have e : i_Rel 1 (nI l, nI 0, fun _ => 0) (nI l, nI 0, fun _ => 0) := kp_mk hl h0 kp_S0
  rw [nI_0] at e
  exact hc (fun y => wpY_init (fun v => i_Rel 1 (y, 0, fun _ => 0) v) k0) (hc (fun z => i_Rel 1 (nI l, 0, fun _ => 0) (z, 0, fun _ => 0)) e)
theorem i_vc_pluck {k : Nat} {u : SX} {v : SY} (I : i_Rel k u v) (hk : k + 2 ≤ 1025) (v1 : Int32) : wpX_pluck (fun r u' => wpY_pluck (fun r' v' => r' = r ∧ i_Rel (k + 2) u' v') v v1) u v1 := by
  obtain ⟨l, p, a, rfl, rfl, hl, hp, hS⟩ := I
  obtain ⟨r, b, hb, hX, hY⟩ := kp_pluck (nI l) (nI p) 32 0 rfl v1 a hS
  have e : i_Rel (k + 2) (nI l, nI 0, b) (nI l, nI 0, b) := kp_mk hl (by omega) hb
  rw [nI_0] at hX hY e
  exact ⟨33, hX _ ⟨33, hY _ ⟨rfl, e⟩⟩⟩
theorem i_vc_tick {k : Nat} {u : SX} {v : SY} (I : i_Rel k u v) (hk : k + 2 ≤ 1025) : wpX_tick (fun r u' => wpY_tick (fun r' v' => r' = r ∧ i_Rel (k + 2) u' v') v) u := by
  obtain ⟨l, p, a, rfl, rfl, hl, hp, hS⟩ := I
  obtain ⟨q, b, hq, hb, hX, hY⟩ := kp_tick hl hp hS
  exact hX _ (hY _ ⟨rfl, kp_mk hl hq hb⟩)
theorem i_vc_setLength {k : Nat} {u : SX} {v : SY} (I : i_Rel k u v) (hk : k + 2 ≤ 1025) (v1 : Int32) : wpX_setLength (fun r u' => wpY_setLength (fun r' v' => r' = r ∧ i_Rel (k + 2) u' v') v v1) u v1 := by
  obtain ⟨l, p, a, rfl, rfl, hl, hp, hS⟩ := I
  obtain ⟨m, q, hm, hq, hX, hY⟩ := kp_setL (a := a) hl hp v1
  exact hX _ (hY _ ⟨rfl, kp_mk hm hq hS⟩)
theorem i_vc_cell {k : Nat} {u : SX} {v : SY} (I : i_Rel k u v) (hk : k + 2 ≤ 1025) (v1 : Int32) : wpX_cell (fun r => wpY_cell (fun r' => r' = r ∧ i_Rel (k + 2) u v) v v1) u v1 := by
  obtain ⟨l, p, a, rfl, rfl, hl, hp, hS⟩ := I
  have e : i_Rel (k + 2) (nI l, nI p, a) (nI l, nI p, a) := kp_mk hl hp hS
  by_cases h0 : v1 < 0
  · have h1 : ¬ 0 ≤ v1 := Int32.not_le.mpr h0
    exact br_t h0 (br_f h1 ⟨rfl, e⟩)
  · have h1 : 0 ≤ v1 := Int32.not_lt.mp h0
    by_cases h3 : v1 ≤ 31
    · have hi : vp_in v1 32 := by
        obtain ⟨j, hj, rfl⟩ := nI_of2 (M := 31) (n := 31) (by decide) h0 h3
        exact vp_in_nI (by omega) (by omega)
      exact br_f h0 (br_t h3 ⟨hi, hS _, br_t h1 (br_t h3 ⟨hi, hS _, rfl, e⟩)⟩)
    · exact br_f h0 (br_f h3 (br_t h1 (br_f h3 ⟨rfl, e⟩)))
end
