section
/-- the bit that a product's sign choice reads -/
def aq_b (h : Int64) : Int64 := ((h.toUInt64 >>> ((40 : Int32).toInt64.toUInt64 &&& Int64.toUInt64 63)).toInt64) &&& 1
/-- one counter's step, as the reference reckons it -/
def aq_s (z h : Int64) : Int64 := z + (aq_b h + aq_b h - 1)
/-- the count of positive counters, one more looked at -/
def aq_p (z : Int64) (n : Int32) : Int32 := if z ≤ 0 then n else n + 1
theorem aq_one : (1 : Int64).toBitVec.toNat = 1 := by decide
theorem aq_01 (x : Int64) : x &&& 1 = 0 ∨ x &&& 1 = 1 := by
  have e : (x &&& 1).toBitVec.toNat = x.toBitVec.toNat % 2 := by
    rw [Int64.toBitVec_and, BitVec.toNat_and, aq_one]
    exact Nat.and_one_is_mod _
  rcases Nat.mod_two_eq_zero_or_one x.toBitVec.toNat with h | h
  · exact Or.inl (Int64.toBitVec_inj.mp (BitVec.eq_of_toNat_eq (by rw [e, h]; rfl)))
  · exact Or.inr (Int64.toBitVec_inj.mp (BitVec.eq_of_toNat_eq (by rw [e, h]; rfl)))
theorem aq_up1 : (1 : Int64) + 1 - 1 = 1 := by decide
theorem aq_dn1 : (0 : Int64) + 0 - 1 = -1 := by decide
/-- the component's branch up or down is the reference's sum -/
theorem aq_br {z b : Int64} (hb : b = 0 ∨ b = 1) (P : Int64 → Prop) (H : P (z + (b + b - 1))) : (b = 1 → ∀ y : Int64, y = z + 1 → P y) ∧ (¬ b = 1 → ∀ y : Int64, y = z - 1 → P y) := by
  refine ⟨fun e y ey => ?_, fun e y ey => ?_⟩
  · rw [e, aq_up1] at H
    rw [ey]; exact H
  · have e0 : b = 0 := hb.resolve_right e
    rw [e0, aq_dn1] at H
    rw [ey, Int64.sub_eq_add_neg]; exact H
theorem aq_pp {z : Int64} {n : Int32} (P : Int32 → Prop) (H : P (aq_p z n)) : (z ≤ 0 → P n) ∧ (¬ z ≤ 0 → ∀ y : Int32, y = n + 1 → P y) := by
  refine ⟨fun e => ?_, fun e y ey => ?_⟩
  · have q : aq_p z n = n := if_pos e
    rw [q] at H; exact H
  · have q : aq_p z n = n + 1 := if_neg e
    rw [q] at H; rw [ey]; exact H
theorem aq_ite {c : Prop} [Decidable c] {x y : Int64} {P : Int64 → Prop} (H : P (if c then x else y)) : (c → P x) ∧ (¬ c → P y) := by
  refine ⟨fun h => ?_, fun h => ?_⟩
  · rw [if_pos h] at H; exact H
  · rw [if_neg h] at H; exact H
theorem aq_u0 (a : Nat → Int64) (s : Int64) : vp_updL a 0 s 1 = a 1 := rfl
theorem aq_u1 (a : Nat → Int64) (s t : Int64) : vp_updL (vp_updL a 0 s) 1 t 2 = a 2 := rfl
theorem aq_u3 (a : Nat → Int64) (s t r : Int64) : (s, t, r) = (vp_updL (vp_updL (vp_updL a 0 s) 1 t) 2 r 0, vp_updL (vp_updL (vp_updL a 0 s) 1 t) 2 r 1, vp_updL (vp_updL (vp_updL a 0 s) 1 t) 2 r 2) := rfl
/-- three sorted by swaps: the middle one -/
def aq_m2 (a b : Int64) : Int64 := if a ≤ b then b else a
def aq_m1 (a b c : Int64) : Int64 := if b ≤ c then aq_m2 a b else aq_m2 a c
def aq_med (a b c : Int64) : Int64 := if a ≤ b then aq_m1 a b c else aq_m1 b a c
end
section
/-! the component's add -/
theorem aq_X164 {post : Int32 → SX → Prop} {n : Int32} {z0 z1 z2 : Int64} (H : post (aq_p z2 n) (z0, z1, z2)) : wX_add_164 post n z0 z1 z2 := aq_pp (fun y => post y (z0, z1, z2)) H
theorem aq_X149 {post : Int32 → SX → Prop} {n : Int32} {z0 z1 z2 : Int64} (H : post (aq_p z2 (aq_p z1 n)) (z0, z1, z2)) : wX_add_149 post n z0 z1 z2 := aq_pp (fun y => wX_add_164 post y z0 z1 z2) (aq_X164 H)
theorem aq_X131 {post : Int32 → SX → Prop} {z0 z1 z2 : Int64} (H : post (aq_p z2 (aq_p z1 (aq_p z0 0))) (z0, z1, z2)) : wX_add_131 post z0 z1 z2 := aq_pp (fun y => wX_add_149 post y z0 z1 z2) (aq_X149 H)
theorem aq_X89 {post : Int32 → SX → Prop} {x z0 z1 z2 : Int64} (H : wX_add_131 post z0 z1 (aq_s z2 (x * 1609587929392839161))) : wX_add_89 post x z0 z1 z2 := by
  intro h eh
  subst eh
  exact aq_br (aq_01 _) (fun y => wX_add_131 post z0 z1 y) H
theorem aq_X47 {post : Int32 → SX → Prop} {x z0 z1 z2 : Int64} (H : wX_add_89 post x z0 (aq_s z1 (x * (-4417276706812531889))) z2) : wX_add_47 post x z0 z1 z2 := by
  intro h eh
  subst eh
  exact aq_br (aq_01 _) (fun y => wX_add_89 post x z0 y z2) H
theorem aq_X0 {post : Int32 → SX → Prop} {z0 z1 z2 : Int64} {p : Int32} (H : wX_add_47 post (p.toInt64 + 1) (aq_s z0 ((p.toInt64 + 1) * (-7046029254386353131))) z1 z2) : wpX_add post (z0, z1, z2) p := by
  intro x ex h eh
  subst ex
  subst eh
  exact aq_br (aq_01 _) (fun y => wX_add_47 post (p.toInt64 + 1) y z1 z2) H
theorem aq_X (post : Int32 → SX → Prop) (z0 z1 z2 s0 s1 s2 : Int64) (p : Int32) (h0 : s0 = aq_s z0 ((p.toInt64 + 1) * (-7046029254386353131))) (h1 : s1 = aq_s z1 ((p.toInt64 + 1) * (-4417276706812531889))) (h2 : s2 = aq_s z2 ((p.toInt64 + 1) * 1609587929392839161)) (H : post (aq_p s2 (aq_p s1 (aq_p s0 0))) (s0, s1, s2)) : wpX_add post (z0, z1, z2) p := by
  subst h0
  subst h1
  subst h2
  exact aq_X0 (aq_X47 (aq_X89 (aq_X131 H)))
/-! the reference's add: one turn of its loop, its end, the whole -/
theorem aq_Ys (post : Int32 → SY → Prop) (p : Int32) (n i : Nat) (hi : i < 3) (x2 : Int32) (az am : Nat → Int64) (s : Int64) (hs : s = aq_s (az i) ((p.toInt64 + 1) * am i)) (H : wY_add_4 post p n (aq_p s x2) (nI (i + 1)) (vp_updL az i s) am) : wY_add_4 post p (n + 1) x2 (nI i) az am := by
  have h3 : ¬ (3 : Int32) ≤ nI i := nI_ge (b := 3) hi (by decide)
  have hin : vp_in (nI i) 3 := vp_in_nI hi (by decide)
  have hc : (nI i).toNatClampNeg = i := nI_clamp (by omega)
  subst hs
  rw [wY_add_4]
  dsimp only
  rw [hc]
  refine br_f h3 ⟨hin, nm_e (nm_e ⟨hin, hin, nm_e ?_⟩)⟩
  by_cases hz : aq_s (az i) ((p.toInt64 + 1) * am i) ≤ 0
  · have q : aq_p (aq_s (az i) ((p.toInt64 + 1) * am i)) x2 = x2 := if_pos hz
    rw [q] at H
    exact br_t hz (nm_r (nI_1 i) H)
  · have q : aq_p (aq_s (az i) ((p.toInt64 + 1) * am i)) x2 = x2 + 1 := if_neg hz
    rw [q] at H
    exact br_f hz (nm_e (nm_r (nI_1 i) H))
theorem aq_Ye (post : Int32 → SY → Prop) (p : Int32) (n : Nat) (x2 : Int32) (az am : Nat → Int64) (H : post x2 (az, am)) : wY_add_4 post p (n + 1) x2 (nI 3) az am := by
  have h3 : (3 : Int32) ≤ nI 3 := nI_le (a := 3) (b := 3) (Nat.le_refl _) (by decide)
  exact br_t h3 H
theorem aq_Y (post : Int32 → SY → Prop) (p : Int32) (az am : Nat → Int64) (s0 s1 s2 : Int64) (h0 : s0 = aq_s (az 0) ((p.toInt64 + 1) * am 0)) (h1 : s1 = aq_s (az 1) ((p.toInt64 + 1) * am 1)) (h2 : s2 = aq_s (az 2) ((p.toInt64 + 1) * am 2)) (H : post (aq_p s2 (aq_p s1 (aq_p s0 0))) (vp_updL (vp_updL (vp_updL az 0 s0) 1 s1) 2 s2, am)) : wpY_add post (az, am) p := by
  refine Exists.intro 4 ?_
  refine aq_Ys post p 3 0 (by decide) 0 az am s0 h0 ?_
  refine aq_Ys post p 2 1 (by decide) _ _ am s1 (by rw [aq_u0]; exact h1) ?_
  refine aq_Ys post p 1 2 (by decide) _ _ am s2 (by rw [aq_u1]; exact h2) ?_
  exact aq_Ye post p 0 _ _ am H
/-! the reference's square at an index within -/
theorem aq_Yq (post : Int64 → Prop) (az am : Nat → Int64) (j : Nat) (hj : j ≤ 2) (H : post (az j * az j)) : wpY_square post (az, am) (nI j) := by
  have h0 : ¬ nI j < 0 := nI_pos (by omega)
  have h2 : nI j ≤ (2 : Int32) := nI_le (b := 2) hj (by decide)
  have hi : vp_in (nI j) 3 := vp_in_nI (by omega) (by decide)
  have hc : (nI j).toNatClampNeg = j := nI_clamp (by omega)
  unfold wpY_square
  dsimp only
  rw [hc]
  exact br_f h0 (br_t h2 ⟨hi, hi, H⟩)
/-! both medians -/
theorem aq_X62 {post : Int64 → Prop} {a b z0 z1 z2 : Int64} (H : post (aq_m2 a b)) : wX_f2_62 post a b z0 z1 z2 := aq_ite (P := post) H
theorem aq_X45 {post : Int64 → Prop} {a b c z0 z1 z2 : Int64} (H : post (aq_m1 a b c)) : wX_f2_45 post a b c z0 z1 z2 :=
  br_c (fun h => aq_X62 ((aq_ite (P := post) H).1 h)) (fun h => aq_X62 ((aq_ite (P := post) H).2 h))
theorem aq_Xf {post : Int64 → Prop} {z0 z1 z2 : Int64} (H : post (aq_med (z0 * z0) (z1 * z1) (z2 * z2))) : wpX_f2 post (z0, z1, z2) := by
  intro a ea b eb c ec
  subst ea
  subst eb
  subst ec
  exact br_c (fun h => aq_X45 ((aq_ite (P := post) H).1 h)) (fun h => aq_X45 ((aq_ite (P := post) H).2 h))
theorem aq_Y50 {post : Int64 → Prop} {a b : Int64} {az am : Nat → Int64} (H : post (aq_m2 a b)) : wY_f2_50 post a b az am := aq_ite (P := post) H
theorem aq_Y33 {post : Int64 → Prop} {a b c : Int64} {az am : Nat → Int64} (H : post (aq_m1 a b c)) : wY_f2_33 post a b c az am :=
  br_c (fun h => aq_Y50 ((aq_ite (P := post) H).1 h)) (fun h => aq_Y50 ((aq_ite (P := post) H).2 h))
theorem aq_Yf {post : Int64 → Prop} {az am : Nat → Int64} (H : post (aq_med (az 0 * az 0) (az 1 * az 1) (az 2 * az 2))) : wpY_f2 post (az, am) := by
  unfold wpY_f2
  dsimp only
  refine aq_Yq _ az am 0 (by decide) ?_
  refine aq_Yq _ az am 1 (by decide) ?_
  refine aq_Yq _ az am 2 (by decide) ?_
  exact br_c (fun h => aq_Y33 ((aq_ite (P := post) H).1 h)) (fun h => aq_Y33 ((aq_ite (P := post) H).2 h))
end
section
/-- the relation: the component's three counters are the reference's three cells, and the reference's multipliers are the component's literals -/
def i_Rel (_ : Nat) (u : SX) (v : SY) : Prop := u = (v.1 0, v.1 1, v.1 2) ∧ v.2 0 = -7046029254386353131 ∧ v.2 1 = -4417276706812531889 ∧ v.2 2 = 1609587929392839161
theorem i_up {k : Nat} {u : SX} {v : SY} (h : i_Rel k u v) : i_Rel (k + 2) u v := h
theorem i_vc0 : wpX_init (fun u => wpY_init (fun v => i_Rel 0 u v)) := by
  intro a ea b eb c ec
  subst ec
  subst eb
  subst ea
  exact And.intro rfl (And.intro rfl (And.intro rfl rfl))
theorem i_vc_add {k : Nat} {u : SX} {v : SY} (I : i_Rel k u v) (hk : k + 2 ≤ 1024) (v1 : Int32) : wpX_add (fun r u' => wpY_add (fun r' v' => r' = r ∧ i_Rel (k + 2) u' v') v v1) u v1 := by
  obtain ⟨az, am⟩ := v
  obtain ⟨rfl, m0, m1, m2⟩ := I
  have n0 : am 0 = -7046029254386353131 := m0
  have n1 : am 1 = -4417276706812531889 := m1
  have n2 : am 2 = 1609587929392839161 := m2
  refine aq_X _ (az 0) (az 1) (az 2) _ _ _ v1 rfl rfl rfl ?_
  refine aq_Y _ v1 az am _ _ _ (by rw [n0]) (by rw [n1]) (by rw [n2]) ?_
  exact And.intro rfl (And.intro (aq_u3 az _ _ _) (And.intro n0 (And.intro n1 n2)))
theorem i_vc_square {k : Nat} {u : SX} {v : SY} (I : i_Rel k u v) (hk : k + 2 ≤ 1024) (v1 : Int32) : wpX_square (fun r => wpY_square (fun r' => r' = r ∧ i_Rel (k + 2) u v) v v1) u v1 := by
  have J : i_Rel (k + 2) u v := I
  obtain ⟨az, am⟩ := v
  obtain ⟨rfl, m0, m1, m2⟩ := I
  by_cases h0 : v1 < 0
  · exact br_t h0 (br_t h0 (And.intro rfl J))
  · by_cases h2 : v1 ≤ 2
    · have e2 : (2 : Int32).toInt = (2 : Nat) := by decide
      obtain ⟨j, hj, ej⟩ := nI_of2 e2 h0 h2
      subst ej
      rcases (by omega : j = 0 ∨ j = 1 ∨ j = 2) with rfl | rfl | rfl
      · have e0 : nI 0 = 0 := nI_0
        exact br_f h0 (br_t h2 (br_t e0 (aq_Yq _ az am 0 hj (And.intro rfl J))))
      · have d0 : ¬ nI 1 = 0 := nI_ne0 (by decide) (by decide)
        have e1 : nI 1 = 1 := by decide +kernel
        exact br_f h0 (br_t h2 (br_f d0 (br_t e1 (aq_Yq _ az am 1 hj (And.intro rfl J)))))
      · have d0 : ¬ nI 2 = 0 := nI_ne0 (by decide) (by decide)
        have d1 : ¬ nI 2 = 1 := by decide +kernel
        exact br_f h0 (br_t h2 (br_f d0 (br_f d1 (aq_Yq _ az am 2 hj (And.intro rfl J)))))
    · exact br_f h0 (br_f h2 (br_f h0 (br_f h2 (And.intro rfl J))))
theorem i_vc_f2 {k : Nat} {u : SX} {v : SY} (I : i_Rel k u v) (hk : k + 2 ≤ 1024) : wpX_f2 (fun r => wpY_f2 (fun r' => r' = r ∧ i_Rel (k + 2) u v) v) u := by
  have J : i_Rel (k + 2) u v := I
  obtain ⟨az, am⟩ := v
  obtain ⟨rfl, m0, m1, m2⟩ := I
  exact aq_Xf (aq_Yf (And.intro rfl J))
end
