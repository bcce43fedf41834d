section
/-- every cell holds a digit from 0 to 19 -/
def mc_ok (a : Nat → Int32) : Prop := ∀ j : Nat, ∃ m : Nat, m < 20 ∧ a j = nI m
theorem mc_b : ∀ m : Nat, m < 21 → (nI m).toInt8.toInt32 = nI m := by decide +kernel
theorem mc_n (m : Nat) (h : m < 21) : vp_nar .byte (nI m) = nI m := by rw [vp_nar_byte, mc_b m h]
theorem mc_0 : vp_nar .byte 0 = nI 0 := by rw [vp_nar_byte]; decide
theorem mc_5 : nI 5 = 5 := by decide +kernel
theorem mc_upd {a : Nat → Int32} (h : mc_ok a) (i : Nat) {m : Nat} (hm : m < 20) : mc_ok (upd a i (nI m)) := by
  intro j
  by_cases e : j = i
  · exact ⟨m, hm, if_pos e⟩
  · obtain ⟨q, hq, eq⟩ := h j
    exact ⟨q, hq, (if_neg e).trans eq⟩
theorem mc_uu (a : Nat → Int32) (i : Nat) (x y : Int32) : upd (upd a i x) i y = upd a i y := by
  funext j
  by_cases e : j = i
  · exact (if_pos e).trans (if_pos e).symm
  · exact (if_neg e).trans ((if_neg e).trans (if_neg e).symm)
/-- set, behind the radix: one outcome for both sides -/
theorem mc_set {a : Nat → Int32} (ok : mc_ok a) (j : Nat) (hj : j < 5) (z : Nat) (hz : z ≤ 20) (v2 : Int32) :
    ∃ (r : Int32) (a' : Nat → Int32), mc_ok a' ∧ (∀ post : Int32 → SX → Prop, post r a' → wX_set_23 post (nI j) v2 (nI z) a) ∧ (∀ post : Int32 → SY → Prop, post r a' → wY_set_23 post (nI j) v2 (nI z) a) := by
  by_cases h0 : v2 < 0
  · exact ⟨-2, a, ok, fun post h => br_t h0 h, fun post h => br_t h0 h⟩
  · obtain ⟨m, hm, rfl⟩ := nI_of h0
    have hc : (nI j).toNatClampNeg = j := nI_clamp (by omega)
    have hin : vp_in (nI j) 5 := vp_in_nI hj (by omega)
    by_cases hmz : m < z
    · have hlt : nI m < nI z := nI_lt hmz (by omega)
      have e : upd a (nI j).toNatClampNeg (vp_nar .byte (nI m).toInt8.toInt32) = upd a j (nI m) := by
        rw [hc, mc_b m (by omega), mc_n m (by omega)]
      refine ⟨a j, upd a j (nI m), mc_upd ok j (by omega), fun post h => ?_, fun post h => ?_⟩
      · exact br_f h0 (br_t hlt ⟨hin, nm_r (congrArg a hc) ⟨hin, nm_r e h⟩⟩)
      · exact br_f h0 (br_t hlt ⟨hin, nm_r (congrArg a hc) ⟨hin, nm_r e h⟩⟩)
    · have hnl : ¬ nI m < nI z := nI_nlt (by omega) hm
      exact ⟨-2, a, ok, fun post h => br_f h0 (br_f hnl h), fun post h => br_f h0 (br_f hnl h)⟩
/-- advance, one digit: it rolls over on both sides, or both sides end -/
theorem mc_step {a : Nat → Int32} (ok : mc_ok a) (j : Nat) (hj : j < 5) (z : Nat) (hz : z ≤ 20) :
    ∃ a' : Nat → Int32, mc_ok a' ∧
      (((∀ (post : Int32 → SX → Prop) (J : Int32 → Int32 → (Nat → Int32) → Prop), J (nI (j + 1)) (nI (j + 1)) a' → wX_advance_21 post J (nI j) (nI j) (nI z) a) ∧
        (∀ (post : Int32 → SY → Prop) (J : Int32 → (Nat → Int32) → Prop), J (nI (j + 1)) a' → wY_advance_19 post J (nI j) (nI z) a)) ∨
       ((∀ (post : Int32 → SX → Prop) (J : Int32 → Int32 → (Nat → Int32) → Prop), post (nI j) a' → wX_advance_21 post J (nI j) (nI j) (nI z) a) ∧
        (∀ (post : Int32 → SY → Prop) (J : Int32 → (Nat → Int32) → Prop), post (nI j) a' → wY_advance_19 post J (nI j) (nI z) a))) := by
  obtain ⟨q, hq, eq⟩ := ok j
  have hc : (nI j).toNatClampNeg = j := nI_clamp (by omega)
  have hin : vp_in (nI j) 5 := vp_in_nI hj (by omega)
  have ea : a (nI j).toNatClampNeg + 1 = nI (q + 1) := by rw [hc, eq, nI_1]
  have eb : (a (nI j).toNatClampNeg + 1).toInt8.toInt32 = nI (q + 1) := by rw [ea, mc_b (q + 1) (by omega)]
  have ec : upd a (nI j).toNatClampNeg (vp_nar .byte (a (nI j).toNatClampNeg + 1).toInt8.toInt32) = upd a j (nI (q + 1)) := by
    rw [eb, mc_n (q + 1) (by omega), hc]
  have ed : upd a (nI j).toNatClampNeg (vp_nar .byte (nI (q + 1)).toInt8.toInt32) = upd a j (nI (q + 1)) := by
    rw [mc_b (q + 1) (by omega), mc_n (q + 1) (by omega), hc]
  have e0 : upd a (nI j).toNatClampNeg (vp_nar .byte 0) = upd a j (nI 0) := by rw [hc, mc_0]
  have e1 : upd (upd a j (nI (q + 1))) (nI j).toNatClampNeg (vp_nar .byte 0) = upd a j (nI 0) := by rw [hc, mc_0, mc_uu]
  by_cases hzq : z ≤ q + 1
  · have hle : nI z ≤ nI (q + 1) := nI_le hzq (by omega)
    have hle' : nI z ≤ (a (nI j).toNatClampNeg + 1).toInt8.toInt32 := by rw [eb]; exact hle
    refine ⟨upd a j (nI 0), mc_upd ok j (by omega), Or.inl ⟨fun post J h => ?_, fun post J h => ?_⟩⟩
    · exact And.intro hin (nm_r ea (br_t hle ⟨hin, nm_r e0 (nm_r (nI_1 j) (nm_r (nI_1 j) h))⟩))
    · exact And.intro hin ⟨hin, nm_r ec (br_t hle' ⟨hin, nm_r e1 (nm_r (nI_1 j) h)⟩)⟩
  · have hnl : ¬ nI z ≤ nI (q + 1) := nI_ge (by omega) (by omega)
    have hnl' : ¬ nI z ≤ (a (nI j).toNatClampNeg + 1).toInt8.toInt32 := by rw [eb]; exact hnl
    refine ⟨upd a j (nI (q + 1)), mc_upd ok j (by omega), Or.inr ⟨fun post J h => ?_, fun post J h => ?_⟩⟩
    · exact And.intro hin (nm_r ea (br_f hnl ⟨hin, nm_r ed h⟩))
    · exact And.intro hin ⟨hin, nm_r ec (br_f hnl' h)⟩
/-- advance from the digit j on: one outcome for both sides -/
theorem mc_adv : ∀ (d j : Nat) (a : Nat → Int32), j + d = 5 → mc_ok a →
    ∃ (r : Int32) (a' : Nat → Int32), mc_ok a' ∧ (∀ post : Int32 → SX → Prop, post r a' → wX_advance_4 post (d + 1) (nI j) (nI j) a) ∧ (∀ post : Int32 → SY → Prop, post r a' → wY_advance_2 post (d + 1) (nI j) a) := by
  intro d
  induction d with
  | zero =>
    intro j a hj ok
    have e : j = 5 := by omega
    subst e
    have h : (5 : Int32) ≤ nI 5 := by decide +kernel
    refine ⟨nI 5, a, ok, fun post hp => br_t h hp, fun post hp => br_t h ?_⟩
    rw [mc_5] at hp
    exact hp
  | succ d ih =>
    intro j a hj ok
    have h : ¬ (5 : Int32) ≤ nI j := lt5' j (by omega)
    by_cases e : j = 1
    · subst e
      have h1 : nI 1 = 1 := by decide +kernel
      obtain ⟨a', ok', hs | hs⟩ := mc_step ok 1 (by omega) 18 (by omega)
      · obtain ⟨r, b, okb, hX, hY⟩ := ih 2 a' (by omega) ok'
        exact ⟨r, b, okb, fun post hp => br_f h (br_t h1 (hs.1 post _ (hX post hp))), fun post hp => br_f h (br_t h1 (hs.2 post _ (hY post hp)))⟩
      · exact ⟨nI 1, a', ok', fun post hp => br_f h (br_t h1 (hs.1 post _ hp)), fun post hp => br_f h (br_t h1 (hs.2 post _ hp))⟩
    · have h1 : ¬ nI j = 1 := fun z => e ((nI_eq (a := j) (b := 1) (by omega) (by omega)).mp z)
      obtain ⟨a', ok', hs | hs⟩ := mc_step ok j (by omega) 20 (by omega)
      · obtain ⟨r, b, okb, hX, hY⟩ := ih (j + 1) a' (by omega) ok'
        exact ⟨r, b, okb, fun post hp => br_f h (br_f h1 (hs.1 post _ (hX post hp))), fun post hp => br_f h (br_f h1 (hs.2 post _ (hY post hp)))⟩
      · exact ⟨nI j, a', ok', fun post hp => br_f h (br_f h1 (hs.1 post _ hp)), fun post hp => br_f h (br_f h1 (hs.2 post _ hp))⟩
end
section
/-- both sides hold the same digits, each of them from 0 to 19 -/
def i_Rel (_ : Nat) (u : SX) (v : SY) : Prop := u = v ∧ mc_ok u
theorem i_up {k : Nat} {u : SX} {v : SY} (h : i_Rel k u v) : i_Rel (k + 3) u v := h
theorem i_vc0 : wpX_init (fun u => wpY_init (fun v => i_Rel 0 u v)) := And.intro rfl (fun _ => ⟨0, by decide, nI_0.symm⟩)
theorem i_vc_set {k : Nat} {u : SX} {v : SY} (I : i_Rel k u v) (hk : k + 3 ≤ 1536) (v1 : Int32) (v2 : Int32) : wpX_set (fun r u' => wpY_set (fun r' v' => r' = r ∧ i_Rel (k + 3) u' v') v v1 v2) u v1 v2 := by
  obtain ⟨rfl, ok⟩ := I
  by_cases h0 : v1 < 0
  · exact br_t h0 (br_t h0 ⟨rfl, rfl, ok⟩)
  · by_cases h4 : v1 ≤ 4
    · obtain ⟨j, hj, rfl⟩ := nI_of2 (M := 4) (n := 4) (by decide) h0 h4
      by_cases h1 : nI j = 1
      · obtain ⟨r, a', ok', hX, hY⟩ := mc_set ok j (by omega) 18 (by omega) v2
        exact br_f h0 (br_t h4 (br_t h1 (hX _ (br_f h0 (br_t h4 (br_t h1 (hY _ ⟨rfl, rfl, ok'⟩)))))))
      · obtain ⟨r, a', ok', hX, hY⟩ := mc_set ok j (by omega) 20 (by omega) v2
        exact br_f h0 (br_t h4 (br_f h1 (hX _ (br_f h0 (br_t h4 (br_f h1 (hY _ ⟨rfl, rfl, ok'⟩)))))))
    · exact br_f h0 (br_f h4 (br_f h0 (br_f h4 ⟨rfl, rfl, ok⟩)))
theorem i_vc_advance {k : Nat} {u : SX} {v : SY} (I : i_Rel k u v) (hk : k + 3 ≤ 1536) : wpX_advance (fun r u' => wpY_advance (fun r' v' => r' = r ∧ i_Rel (k + 3) u' v') v) u := by
  obtain ⟨rfl, ok⟩ := I
  obtain ⟨r, a', ok', hX, hY⟩ := mc_adv 5 0 u rfl ok
  rw [nI_0] at hX hY
  exact Exists.intro 6 (hX _ (Exists.intro 6 (hY _ ⟨rfl, rfl, ok'⟩)))
theorem i_vc_days {k : Nat} {u : SX} {v : SY} (I : i_Rel k u v) (hk : k + 3 ≤ 1536) : wpX_days (fun r => wpY_days (fun r' => r' = r ∧ i_Rel (k + 3) u v) v) u := by
  obtain ⟨rfl, ok⟩ := I
  unfold wpX_days wpY_days
  exact ⟨rfl, rfl, ok⟩
theorem i_vc_round {k : Nat} {u : SX} {v : SY} (I : i_Rel k u v) (hk : k + 3 ≤ 1536) : wpX_round (fun r => wpY_round (fun r' => r' = r ∧ i_Rel (k + 3) u v) v) u := by
  obtain ⟨rfl, ok⟩ := I
  have h13 : ¬ (13 : Int64) = 0 := by decide
  have h20 : ¬ (20 : Int64) = 0 := by decide
  have h365 : ¬ (365 : Int64) = 0 := by decide
  unfold wpX_round wpY_round wpX_days wpY_days
  exact ⟨h13, nm_e ⟨h20, nm_e ⟨h365, nm_e ⟨h13, nm_e ⟨h20, nm_e ⟨h365, nm_e ⟨rfl, rfl, ok⟩⟩⟩⟩⟩⟩⟩
end
