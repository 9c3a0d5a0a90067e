section
/-- what a reachable state keeps: at most 4 listed shifts, a pending kind of 0 to 3, a pending total and listed amounts of 0 to 64 -/
def sm_Ok (c p t : Nat) (b : Nat → Int32) : Prop := c ≤ 4 ∧ p ≤ 3 ∧ t ≤ 64 ∧ ∀ j : Nat, ∃ m : Nat, m ≤ 64 ∧ b j = nI m
def sm_St (u : SX) : Prop := ∃ (c p t : Nat) (a b : Nat → Int32), sm_Ok c p t b ∧ u = (nI c, nI p, nI t, a, b)
theorem sm_nar8 : ∀ n : Nat, n < 65 → (nI n).toInt8.toInt32.toInt8.toInt32 = nI n := by decide +kernel
theorem sm_nar {n : Nat} (h : n ≤ 64) : vp_nar .byte (nI n).toInt8.toInt32 = nI n := by
  rw [vp_nar_byte]; exact sm_nar8 n (by omega)
/-- the capped sum, in the class -/
theorem sm_x39 (post : Int32 → SX → Prop) (z t m : Nat) (hz : z ≤ 64) (ht : t ≤ 64) (hm : m ≤ 63) (x : Int32) (ex : x = nI t + nI m) (c p : Nat) (a b : Nat → Int32) (h : post 1 (nI c, nI p, nI (if t + m ≤ z then t + m else z), a, b)) : wX_push_39 post x (nI z) (nI c) (nI p) (nI t) a b := by
  subst ex
  rw [nI_add]
  unfold wX_push_39
  by_cases hl : t + m ≤ z
  · rw [if_pos hl] at h
    exact br_t (nI_le hl (by omega)) h
  · rw [if_neg hl] at h
    exact br_f (nI_ge (by omega) (by omega)) h
/-- the capped sum, in the reference -/
theorem sm_y32 (post : Int32 → SY → Prop) (z t m : Nat) (hz : z ≤ 64) (ht : t ≤ 64) (hm : m ≤ 63) (c p : Nat) (a b : Nat → Int32) (h : post 1 (nI c, nI p, nI (if t + m ≤ z then t + m else z), a, b)) : wY_push_32 post (nI m) (nI z) (nI c) (nI p) (nI t) a b := by
  unfold wY_push_32
  intro x ex
  subst ex
  rw [nI_add]
  by_cases hl : t + m ≤ z
  · rw [if_pos hl] at h
    exact br_t (nI_le hl (by omega)) h
  · rw [if_neg hl] at h
    exact br_f (nI_ge (by omega) (by omega)) h
/-- push, both sides at once: one answer and one state -/
theorem sm_push {c p t : Nat} {a b : Nat → Int32} (H : sm_Ok c p t b) (q : Nat) (hq1 : 1 ≤ q) (hq3 : q ≤ 3) (n : Int32) :
    ∃ (r : Int32) (w : SX), sm_St w ∧ (∀ post : Int32 → SX → Prop, post r w → wpX_push post (nI c, nI p, nI t, a, b) (nI q) n) ∧ (∀ post : Int32 → SY → Prop, post r w → wpY_push post (nI c, nI p, nI t, a, b) (nI q) n) := by
  have hS : sm_St (nI c, nI p, nI t, a, b) := ⟨c, p, t, a, b, H, rfl⟩
  obtain ⟨hc, hp, ht, hb⟩ := H
  by_cases h0 : n < 0
  · exact ⟨-1, _, hS, fun _ h => br_t h0 h, fun _ h => br_t h0 h⟩
  by_cases h63 : n ≤ 63
  case neg => exact ⟨-1, _, hS, fun _ h => br_f h0 (br_f h63 h), fun _ h => br_f h0 (br_f h63 h)⟩
  obtain ⟨m, hm, rfl⟩ := nI_of2 (M := 63) (n := 63) (by decide) h0 h63
  by_cases hk : p = q
  · subst hk
    by_cases h2 : p = 2
    · have e2 : nI p = 2 := by rw [h2]; rfl
      exact ⟨1, (nI c, nI p, nI (if t + m ≤ 63 then t + m else 63), a, b), ⟨c, p, _, a, b, ⟨hc, hp, by split <;> omega, hb⟩, rfl⟩,
        fun post h => br_f h0 (br_t h63 (br_t rfl fun x ex => br_t e2 (sm_x39 post 63 t m (by omega) ht hm x ex c p a b h))),
        fun post h => br_f h0 (br_t h63 (br_t rfl (br_t e2 (sm_y32 post 63 t m (by omega) ht hm c p a b h))))⟩
    · have e2 : ¬ nI p = 2 := fun z => h2 ((nI_eq (b := 2) (by omega) (by omega)).mp z)
      exact ⟨1, (nI c, nI p, nI (if t + m ≤ 64 then t + m else 64), a, b), ⟨c, p, _, a, b, ⟨hc, hp, by split <;> omega, hb⟩, rfl⟩,
        fun post h => br_f h0 (br_t h63 (br_t rfl fun x ex => br_f e2 (sm_x39 post 64 t m (by omega) ht hm x ex c p a b h))),
        fun post h => br_f h0 (br_t h63 (br_t rfl (br_f e2 (sm_y32 post 64 t m (by omega) ht hm c p a b h))))⟩
  have hk' : ¬ nI p = nI q := fun z => hk ((nI_eq (by omega) (by omega)).mp z)
  by_cases hz : p = 0
  · have ez : nI p = 0 := by rw [hz]; exact nI_0
    exact ⟨0, (nI c, nI q, nI m, a, b), ⟨c, q, m, a, b, ⟨hc, hq3, by omega, hb⟩, rfl⟩,
      fun post h => br_f h0 (br_t h63 (br_f hk' (br_t ez h))),
      fun post h => br_f h0 (br_t h63 (br_f hk' (br_t ez h)))⟩
  have ez : ¬ nI p = 0 := nI_ne0 (by omega) (by omega)
  by_cases h4 : c < 4
  · have e4 : nI c < 4 := nI_lt (b := 4) h4 (by omega)
    have hi : vp_in (nI c) 4 := vp_in_nI h4 (by omega)
    have ep : vp_nar .byte (nI p).toInt8.toInt32 = nI p := sm_nar (by omega)
    have et : vp_nar .byte (nI t).toInt8.toInt32 = nI t := sm_nar ht
    refine ⟨0, (nI (c + 1), nI q, nI m, upd a (nI c).toNatClampNeg (nI p), upd b (nI c).toNatClampNeg (nI t)), ⟨c + 1, q, m, _, _, ⟨by omega, hq3, by omega, ?_⟩, rfl⟩, fun post h => ?_, fun post h => ?_⟩
    · intro j
      unfold upd
      by_cases hj : j = (nI c).toNatClampNeg
      · exact ⟨t, ht, if_pos hj⟩
      · rw [if_neg hj]; exact hb j
    · exact br_f h0 (br_t h63 (br_f hk' (br_f ez (br_t e4 ⟨hi, nm_e ⟨hi, nm_e (nm_r (nI_1 c) h)⟩⟩))))
    · refine br_f h0 (br_t h63 (br_f hk' (br_f ez (br_t e4 ⟨hi, ?_⟩))))
      rw [ep, et]
      exact nm_e (nm_r (nI_1 c) ⟨hi, nm_e h⟩)
  · have e4 : ¬ nI c < 4 := nI_nlt (b := 4) (by omega) (by omega)
    exact ⟨-2, _, hS, fun _ h => br_f h0 (br_t h63 (br_f hk' (br_f ez (br_f e4 h)))), fun _ h => br_f h0 (br_t h63 (br_f hk' (br_f ez (br_f e4 h))))⟩
/-- one shift, both sides at once: an amount of at most 64 makes the class's '== 64' and the reference's '>= 64' the same -/
theorem sm_step (v : Int64) (k : Int32) (m : Nat) (hm : m ≤ 64) :
    ∃ r : Int64, (∀ (post : Int64 → Prop) (c p t : Int32) (a b : Nat → Int32), post r → wpX_step post (c, p, t, a, b) v k (nI m)) ∧
      (∀ (post : Int64 → Prop) (J : Int64 → Int32 → Prop) (x5 c p t : Int32) (a b : Nat → Int32), J r (x5 + 1) → wY_apply_62 post J v x5 k (nI m) c p t a b) := by
  by_cases k1 : k = 1
  · subst k1
    by_cases h64 : m = 64
    · have e : nI m = 64 := by rw [h64]; rfl
      have e' : ¬ nI m < 64 := nI_nlt (b := 64) (by omega) (by omega)
      exact ⟨0, fun _ _ _ _ _ _ h => br_t rfl (br_t e h),
        fun _ _ _ _ _ _ _ _ h => br_f (by decide) (br_f (by decide) (br_t rfl (br_f e' (nm_e h))))⟩
    · have e : ¬ nI m = 64 := fun z => h64 ((nI_eq (b := 64) (by omega) (by omega)).mp z)
      have e' : nI m < 64 := nI_lt (b := 64) (by omega) (by omega)
      exact ⟨v <<< ((nI m).toInt64 &&& 63), fun _ _ _ _ _ _ h => br_t rfl (br_f e h),
        fun _ _ _ _ _ _ _ _ h => br_f (by decide) (br_f (by decide) (br_t rfl (br_t e' (nm_e (nm_e h)))))⟩
  by_cases k2 : k = 2
  · subst k2
    exact ⟨v >>> ((nI m).toInt64 &&& 63), fun _ _ _ _ _ _ h => br_f k1 (br_t rfl h),
      fun _ _ _ _ _ _ _ _ h => br_f (by decide) (br_f (by decide) (br_f k1 (br_t rfl (nm_e (nm_e h)))))⟩
  by_cases k3 : k = 3
  · subst k3
    by_cases h64 : m = 64
    · have e : nI m = 64 := by rw [h64]; rfl
      have e' : ¬ nI m < 64 := nI_nlt (b := 64) (by omega) (by omega)
      exact ⟨0, fun _ _ _ _ _ _ h => br_f k1 (br_f k2 (br_t rfl (br_t e h))),
        fun _ _ _ _ _ _ _ _ h => br_f (by decide) (br_f (by decide) (br_f k1 (br_f k2 (br_t rfl (br_f e' (nm_e h))))))⟩
    · have e : ¬ nI m = 64 := fun z => h64 ((nI_eq (b := 64) (by omega) (by omega)).mp z)
      have e' : nI m < 64 := nI_lt (b := 64) (by omega) (by omega)
      exact ⟨(v.toUInt64 >>> ((nI m).toInt64.toUInt64 &&& Int64.toUInt64 63)).toInt64, fun _ _ _ _ _ _ h => br_f k1 (br_f k2 (br_t rfl (br_f e h))),
        fun _ _ _ _ _ _ _ _ h => br_f (by decide) (br_f (by decide) (br_f k1 (br_f k2 (br_t rfl (br_t e' (nm_e (nm_e h)))))))⟩
  refine ⟨v, fun _ _ _ _ _ _ h => br_f k1 (br_f k2 (br_f k3 h)), fun _ _ _ _ _ _ _ _ h => ?_⟩
  by_cases l1 : k < 1
  · exact br_t l1 (nm_e h)
  by_cases l3 : 3 < k
  · exact br_f l1 (br_t l3 (nm_e h))
  exact br_f l1 (br_f l3 (br_f k1 (br_f k2 (br_f k3 trivial))))
/-- the loop of apply, both sides at once: d listed shifts are left, then the pending one (the class behind its loop, the reference in its last pass) -/
theorem sm_run {c p t : Nat} {a b : Nat → Int32} (H : sm_Ok c p t b) : ∀ (d j : Nat) (v : Int64), j + d = c →
    ∃ r : Int64, (∀ post : Int64 → Prop, post r → wX_apply_5 post (nI c) (nI p) (nI t) a b (d + 1) v (nI j)) ∧
      (∀ post : Int64 → Prop, post r → wY_apply_5 post (nI c) (nI p) (nI t) a b (d + 2) v (nI j)) := by
  obtain ⟨hc, hp, ht, hb⟩ := H
  intro d
  induction d with
  | zero =>
    intro j v hj
    obtain ⟨r, hX, hY⟩ := sm_step v (nI p) t ht
    have hle : nI c ≤ nI j := nI_le (by omega) (by omega)
    have hnl : ¬ nI c < nI j := nI_nlt (by omega) (by omega)
    have hlt : nI c < nI (j + 1) := nI_lt (by omega) (by omega)
    refine ⟨r, fun post h => br_t hle (hX _ _ _ _ _ _ h), fun post h => br_f hnl (br_t hle (br_t hle (hY _ _ _ _ _ _ _ _ ?_)))⟩
    rw [nI_1]
    exact br_t hlt h
  | succ d ih =>
    intro j v hj
    obtain ⟨m, hm, em⟩ := hb (nI j).toNatClampNeg
    obtain ⟨s, hX, hY⟩ := sm_step v (a (nI j).toNatClampNeg) m hm
    obtain ⟨r, gX, gY⟩ := ih (j + 1) s (by omega)
    have hle : ¬ nI c ≤ nI j := nI_ge (by omega) (by omega)
    have hnl : ¬ nI c < nI j := nI_nlt (by omega) (by omega)
    have hi : vp_in (nI j) 4 := vp_in_nI (by omega) (by omega)
    refine ⟨r, fun post h => br_f hle ⟨hi, hi, ?_⟩, fun post h => br_f hnl (br_f hle ⟨hi, br_f hle ⟨hi, ?_⟩⟩)⟩
    · rw [em]
      exact hX _ _ _ _ _ _ (nm_r (nI_1 j) (gX post h))
    · rw [em]
      refine hY _ _ _ _ _ _ _ _ ?_
      rw [nI_1]
      exact gY post h
end
section
/-- the two states hold the same fields and the same array contents (ints there, bytes here), within the bounds of sm_Ok -/
def i_Rel (k : Nat) (u : SX) (v : SY) : Prop := u = v ∧ sm_St u
theorem i_up {k : Nat} {u : SX} {v : SY} (h : i_Rel k u v) : i_Rel (k + 3) u v := h
theorem i_vc0 : wpX_init (fun u => wpY_init (fun v => i_Rel 0 u v)) := by
  show i_Rel 0 (0, 0, 0, (fun _ => 0), (fun _ => 0)) (0, 0, 0, (fun _ => 0), (fun _ => 0))
  exact ⟨rfl, 0, 0, 0, (fun _ => 0), (fun _ => 0), ⟨by omega, by omega, by omega, fun _ => ⟨0, by omega, nI_0.symm⟩⟩, by rw [nI_0]⟩
theorem i_vc_shl {k : Nat} {u : SX} {v : SY} (I : i_Rel k u v) (hk : k + 3 ≤ 1536) (v1 : Int32) : wpX_shl (fun r u' => wpY_shl (fun r' v' => r' = r ∧ i_Rel (k + 3) u' v') v v1) u v1 := by
  obtain ⟨rfl, c, p, t, a, b, H, rfl⟩ := I
  obtain ⟨r, w, hw, hX, hY⟩ := sm_push (a := a) H 1 (by omega) (by omega) v1
  obtain ⟨c', p', t', a', b', H', rfl⟩ := hw
  unfold wpX_shl wpY_shl
  dsimp only
  refine hX _ ?_
  dsimp only
  refine hY _ ?_
  exact ⟨rfl, rfl, c', p', t', a', b', H', rfl⟩
theorem i_vc_shr {k : Nat} {u : SX} {v : SY} (I : i_Rel k u v) (hk : k + 3 ≤ 1536) (v1 : Int32) : wpX_shr (fun r u' => wpY_shr (fun r' v' => r' = r ∧ i_Rel (k + 3) u' v') v v1) u v1 := by
  obtain ⟨rfl, c, p, t, a, b, H, rfl⟩ := I
  obtain ⟨r, w, hw, hX, hY⟩ := sm_push (a := a) H 2 (by omega) (by omega) v1
  obtain ⟨c', p', t', a', b', H', rfl⟩ := hw
  unfold wpX_shr wpY_shr
  dsimp only
  refine hX _ ?_
  dsimp only
  refine hY _ ?_
  exact ⟨rfl, rfl, c', p', t', a', b', H', rfl⟩
theorem i_vc_ushr {k : Nat} {u : SX} {v : SY} (I : i_Rel k u v) (hk : k + 3 ≤ 1536) (v1 : Int32) : wpX_ushr (fun r u' => wpY_ushr (fun r' v' => r' = r ∧ i_Rel (k + 3) u' v') v v1) u v1 := by
  obtain ⟨rfl, c, p, t, a, b, H, rfl⟩ := I
  obtain ⟨r, w, hw, hX, hY⟩ := sm_push (a := a) H 3 (by omega) (by omega) v1
  obtain ⟨c', p', t', a', b', H', rfl⟩ := hw
  unfold wpX_ushr wpY_ushr
  dsimp only
  refine hX _ ?_
  dsimp only
  refine hY _ ?_
  exact ⟨rfl, rfl, c', p', t', a', b', H', rfl⟩
theorem i_vc_apply {k : Nat} {u : SX} {v : SY} (I : i_Rel k u v) (hk : k + 3 ≤ 1536) (a0 : Int64) : wpX_apply (fun r => wpY_apply (fun r' => r' = r ∧ i_Rel (k + 3) u v) v a0) u a0 := by
  obtain ⟨rfl, c, p, t, a, b, H, rfl⟩ := I
  obtain ⟨r, hX, hY⟩ := sm_run (a := a) H c 0 a0 (by omega)
  unfold wpX_apply wpY_apply
  dsimp only
  exact ⟨c + 1, hX _ ⟨c + 2, hY _ ⟨rfl, rfl, c, p, t, a, b, H, rfl⟩⟩⟩
theorem i_vc_size {k : Nat} {u : SX} {v : SY} (I : i_Rel k u v) (hk : k + 3 ≤ 1536) : wpX_size (fun r => wpY_size (fun r' => r' = r ∧ i_Rel (k + 3) u v) v) u := by
  obtain ⟨rfl, c, p, t, a, b, H, rfl⟩ := I
  unfold wpX_size wpY_size
  exact ⟨rfl, rfl, c, p, t, a, b, H, rfl⟩
theorem i_vc_pending {k : Nat} {u : SX} {v : SY} (I : i_Rel k u v) (hk : k + 3 ≤ 1536) : wpX_pending (fun r => wpY_pending (fun r' => r' = r ∧ i_Rel (k + 3) u v) v) u := by
  obtain ⟨rfl, c, p, t, a, b, H, rfl⟩ := I
  unfold wpX_pending wpY_pending
  exact ⟨rfl, rfl, c, p, t, a, b, H, rfl⟩
end
