section
/-- the reference's long array holds, below n, the component's ints widened -/
def ls_Eq (n : Nat) (a : Nat → Int32) (c : Nat → Int64) : Prop := ∀ j, j < n → c j = (a j).toInt64
theorem ls_sub {a b : Nat} (h : b ≤ a) : nI a - nI b = nI (a - b) := by
  obtain ⟨c, rfl⟩ : ∃ c, a = c + b := ⟨a - b, by omega⟩
  rw [← nI_add, Int32.add_sub_cancel, Nat.add_sub_cancel]
theorem ls_us {f : Nat → Int32} {k : Nat} {x : Int32} : upd f k x k = x := if_pos rfl
theorem ls_un {f : Nat → Int32} {k j : Nat} {x : Int32} (h : j ≠ k) : upd f k x j = f j := if_neg h
theorem ls_uLs {f : Nat → Int64} {k : Nat} {x : Int64} : vp_updL f k x k = x := if_pos rfl
theorem ls_uLn {f : Nat → Int64} {k j : Nat} {x : Int64} (h : j ≠ k) : vp_updL f k x j = f j := if_neg h
/-- both sides store the same int at t; elsewhere below n they held the same -/
theorem ls_set {n t : Nat} {a : Nat → Int32} {c : Nat → Int64} (x : Int32) (h : ∀ j, j < n → j ≠ t → c j = (a j).toInt64) : ls_Eq n (upd a t x) (vp_updL c t x.toInt64) := by
  intro j hj
  by_cases e : j = t
  · cases e
    rw [ls_us, ls_uLs]
  · rw [ls_un e, ls_uLn e]
    exact h j hj e
/-- a store of the reference's at n is not seen below n -/
theorem ls_off {n : Nat} {a : Nat → Int32} {c : Nat → Int64} (x : Int64) (h : ls_Eq n a c) : ls_Eq n a (vp_updL c n x) := by
  intro j hj
  rw [ls_uLn (by omega)]
  exact h j hj
theorem ls_sh {n m : Nat} {a : Nat → Int32} {c : Nat → Int64} (h : ls_Eq n a c) (hm : m ≤ n) : ls_Eq m a c := fun j hj => h j (by omega)
/-- the component's plusLoop with m + 1 loops on the stack -/
theorem ls_plX {m : Nat} (hm : m < 4) (a b : Nat → Int32) (s : Int32) (post : Int32 → SX → Prop)
    (hs : ((b m).toInt64 ≤ (a m).toInt64 ↔ (b m).toInt64 ≤ (a m).toInt64 + s.toInt64) → post 0 (nI (m + 1), upd a m ((a m).toInt64 + s.toInt64).toInt32, b))
    (hl : ¬ ((b m).toInt64 ≤ (a m).toInt64 ↔ (b m).toInt64 ≤ (a m).toInt64 + s.toInt64) → post 1 (nI m, a, b)) :
    wpX_plusLoop post (nI (m + 1), a, b) s := by
  have hp : (0 : Int32) < nI (m + 1) := nI_lt (a := 0) (by omega) (by omega)
  have hi : vp_in (nI m) 4 := vp_in_nI hm (by omega)
  have hc : (nI m).toNatClampNeg = m := nI_clamp (by omega)
  refine br_t hp (nm_r (nI_pred m) ?_)
  rw [hc]
  refine ⟨hi, nm_e ⟨hi, nm_e (nm_e ?_)⟩⟩
  by_cases o : (b m).toInt64 ≤ (a m).toInt64
  · by_cases q : (b m).toInt64 ≤ (a m).toInt64 + s.toInt64
    · refine br_t o (br_t q (br_t rfl ⟨hi, nm_r (by rw [hc]) (hs ⟨fun _ => q, fun _ => o⟩)⟩))
    · refine br_t o (br_f q (br_f (by decide) (hl fun z => q (z.mp o))))
  · by_cases q : (b m).toInt64 ≤ (a m).toInt64 + s.toInt64
    · refine br_f o (br_t q (br_f (by decide) (hl fun z => o (z.mpr q))))
    · refine br_f o (br_f q (br_t rfl ⟨hi, nm_r (by rw [hc]) (hs ⟨fun z => absurd z o, fun z => absurd z q⟩)⟩))
/-- the reference's plusLoop with m + 1 loops on the stack -/
theorem ls_plY {m : Nat} (hm : m < 4) (c d : Nat → Int64) (s : Int32) (post : Int32 → SY → Prop)
    (hs : (d m ≤ c m ↔ d m ≤ c m + s.toInt64) → post 0 (nI (m + 1), vp_updL (vp_updL c m (c m + s.toInt64)) m (c m + s.toInt64).toInt32.toInt64, d))
    (hl : ¬ (d m ≤ c m ↔ d m ≤ c m + s.toInt64) → post 1 (nI m, vp_updL (vp_updL c m (c m + s.toInt64)) m (c m + s.toInt64).toInt32.toInt64, d)) :
    wpY_plusLoop post (nI (m + 1), c, d) s := by
  have hp : ¬ nI (m + 1) = 0 := nI_ne0 (by omega) (by omega)
  have hi : vp_in (nI m) 4 := vp_in_nI hm (by omega)
  have hc : (nI m).toNatClampNeg = m := nI_clamp (by omega)
  refine br_f hp (nm_r (nI_pred m) ⟨hi, hi, ?_⟩)
  unfold wY_plusLoop_37 wY_plusLoop_69
  rw [hc]
  by_cases o : d m ≤ c m
  · refine br_t o ⟨hi, hi, nm_e (nm_e ⟨hi, ?_⟩)⟩
    by_cases q : d m ≤ c m + s.toInt64
    · exact br_t q ⟨hi, nm_e (br_t rfl (hs ⟨fun _ => q, fun _ => o⟩))⟩
    · exact br_f q ⟨hi, nm_e (br_f (by decide) (hl fun z => q (z.mp o)))⟩
  · refine br_f o ⟨hi, hi, nm_e (nm_e ⟨hi, ?_⟩)⟩
    by_cases q : d m ≤ c m + s.toInt64
    · exact br_t q ⟨hi, nm_e (br_f (by decide) (hl fun z => o (z.mpr q)))⟩
    · exact br_f q ⟨hi, nm_e (br_t rfl (hs ⟨fun z => absurd z o, fun z => absurd z q⟩))⟩
end
section
/-- both stacks hold n loops, n at most 4; below n the reference's longs are the component's ints widened -/
def i_Rel (_ : Nat) (u : SX) (v : SY) : Prop := ∃ (n : Nat) (a b : Nat → Int32) (c d : Nat → Int64), u = (nI n, a, b) ∧ v = (nI n, c, d) ∧ n ≤ 4 ∧ ls_Eq n a c ∧ ls_Eq n b d
theorem i_up {k : Nat} {u : SX} {v : SY} (h : i_Rel k u v) : i_Rel (k + 3) u v := h
theorem i_vc0 : wpX_init (fun u => wpY_init (fun v => i_Rel 0 u v)) :=
  ⟨0, (fun _ => 0), (fun _ => 0), (fun _ => 0), (fun _ => 0), rfl, rfl, Nat.zero_le 4, fun j hj => absurd hj (Nat.not_lt_zero j), fun j hj => absurd hj (Nat.not_lt_zero j)⟩
theorem i_vc_enter {k : Nat} {u : SX} {v : SY} (I : i_Rel k u v) (hk : k + 3 ≤ 1536) (v1 : Int32) (v2 : Int32) : wpX_enter (fun r u' => wpY_enter (fun r' v' => r' = r ∧ i_Rel (k + 3) u' v') v v1 v2) u v1 v2 := by
  obtain ⟨n, a, b, c, d, rfl, rfl, hn, h1, h2⟩ := I
  by_cases h4 : n < 4
  · have e4 : nI n < 4 := nI_lt (b := 4) h4 (by omega)
    have hne : ¬ nI n = 4 := fun e => absurd ((nI_eq (b := 4) (by omega) (by omega)).mp e) (by omega)
    have hi : vp_in (nI n) 4 := vp_in_nI h4 (by omega)
    refine br_t e4 ⟨hi, nm_e ⟨hi, nm_e (nm_e ?_)⟩⟩
    refine br_f hne ⟨hi, nm_e ⟨hi, nm_e (nm_e ⟨rfl, ?_⟩)⟩⟩
    rw [nI_clamp (by omega), nI_1]
    exact ⟨n + 1, _, _, _, _, rfl, rfl, by omega, ls_set v2 fun j hj e => h1 j (by omega), ls_set v1 fun j hj e => h2 j (by omega)⟩
  · obtain rfl : n = 4 := by omega
    exact br_f (nI_nlt (a := 4) (b := 4) (by omega) (by omega)) (br_t rfl ⟨rfl, 4, a, b, c, d, rfl, rfl, hn, h1, h2⟩)
theorem i_vc_plusLoop {k : Nat} {u : SX} {v : SY} (I : i_Rel k u v) (hk : k + 3 ≤ 1536) (v1 : Int32) : wpX_plusLoop (fun r u' => wpY_plusLoop (fun r' v' => r' = r ∧ i_Rel (k + 3) u' v') v v1) u v1 := by
  obtain ⟨n, a, b, c, d, rfl, rfl, hn, h1, h2⟩ := I
  cases n with
  | zero => exact br_f (nI_nlt (a := 0) (b := 0) (by omega) (by omega)) (br_t rfl ⟨rfl, 0, a, b, c, d, rfl, rfl, hn, h1, h2⟩)
  | succ m =>
    have e1 : c m = (a m).toInt64 := h1 m (by omega)
    have e2 : d m = (b m).toInt64 := h2 m (by omega)
    refine ls_plX (by omega) a b v1 _ (fun hx => ?_) (fun hx => ?_)
    · refine ls_plY (by omega) c d v1 _ (fun hy => ?_) (fun hy => ?_)
      · refine ⟨rfl, m + 1, _, _, _, _, rfl, rfl, hn, ?_, h2⟩
        rw [e1]
        exact ls_set _ fun j hj e => (ls_uLn e).trans (h1 j hj)
      · rw [e1, e2] at hy
        exact absurd hx hy
    · refine ls_plY (by omega) c d v1 _ (fun hy => ?_) (fun hy => ?_)
      · rw [e1, e2] at hy
        exact absurd hy hx
      · exact ⟨rfl, m, _, _, _, _, rfl, rfl, by omega, ls_off _ (ls_off _ (ls_sh h1 (by omega))), ls_sh h2 (by omega)⟩
theorem i_vc_index {k : Nat} {u : SX} {v : SY} (I : i_Rel k u v) (hk : k + 3 ≤ 1536) (v1 : Int32) : wpX_index (fun r => wpY_index (fun r' => r' = r ∧ i_Rel (k + 3) u v) v v1) u v1 := by
  have J : i_Rel (k + 3) u v := I
  obtain ⟨n, a, b, c, d, rfl, rfl, hn, h1, h2⟩ := I
  by_cases h0 : v1 < 0
  · exact br_t h0 (br_t h0 ⟨rfl, J⟩)
  · obtain ⟨j, hj, rfl⟩ := nI_of h0
    by_cases h : j < n
    · obtain ⟨m, rfl⟩ : ∃ m, n = m + 1 := ⟨n - 1, by omega⟩
      have hl : nI j < nI (m + 1) := nI_lt h (by omega)
      have es : nI (m + 1) - 1 - nI j = nI (m - j) := by rw [nI_pred, ls_sub (by omega)]
      have hi : vp_in (nI (m + 1) - 1 - nI j) 4 := by rw [es]; exact vp_in_nI (by omega) (by omega)
      refine br_f h0 (br_t hl ⟨hi, br_f h0 (br_t hl ⟨hi, ?_, J⟩)⟩)
      rw [es, nI_clamp (by omega)]
      exact h1 (m - j) (by omega)
    · have hl : ¬ nI j < nI n := nI_nlt (by omega) hj
      exact br_f h0 (br_f hl (br_f h0 (br_f hl ⟨rfl, J⟩)))
theorem i_vc_depth {k : Nat} {u : SX} {v : SY} (I : i_Rel k u v) (hk : k + 3 ≤ 1536) : wpX_depth (fun r => wpY_depth (fun r' => r' = r ∧ i_Rel (k + 3) u v) v) u := by
  have J : i_Rel (k + 3) u v := I
  obtain ⟨n, a, b, c, d, rfl, rfl, hn, h1, h2⟩ := I
  exact ⟨rfl, J⟩
end
