section
/-- the sum of the first n bytes held -/
def qt_sum (a : Nat → Int32) : Nat → Int32
  | 0 => 0
  | n + 1 => qt_sum a n + a n
/-- the same capacity, count and bytes on both sides, the count within the capacity, the capacity within 8; the reference's total is the sum of the bytes held -/
def i_Rel (_ : Nat) (u : SX) (v : SY) : Prop := ∃ (c m : Nat) (a : Nat → Int32), c ≤ 8 ∧ m ≤ c ∧ u = (nI c, nI m, a) ∧ v = (nI c, nI m, qt_sum a m, a)
theorem i_up {k : Nat} {u : SX} {v : SY} (h : i_Rel k u v) : i_Rel (k + 2) u v := h
theorem qt_8 : nI 8 = 8 := by decide +kernel
theorem qt_mk {k c : Nat} (hc : c ≤ 8) : i_Rel k (nI c, 0, fun _ => 0) (nI c, 0, 0, fun _ => 0) := ⟨c, 0, fun _ => 0, hc, Nat.zero_le _, rfl, rfl⟩
theorem i_vc0 (k0 : Int32) : wpX_init (fun u => wpY_init (fun v => i_Rel 1 u v) k0) k0 := by
  by_cases h1 : 1 ≤ k0
  · by_cases h8 : k0 ≤ 8
    · have h0 : ¬ k0 < 0 := by
        rw [Int32.lt_iff_toInt_lt]
        rw [Int32.le_iff_toInt_le] at h1
        have e1 : (1 : Int32).toInt = 1 := by decide
        have e0 : (0 : Int32).toInt = 0 := by decide
        omega
      obtain ⟨c, hc, rfl⟩ := nI_of2 (n := 8) (by decide) h0 h8
      exact br_t h1 (br_t h8 (br_t h1 (br_t h8 (qt_mk hc))))
    · exact br_t h1 (br_f h8 (br_t h1 (br_f h8 (qt_mk (c := 8) (by omega)))))
  · exact br_f h1 (br_t (by decide) (br_f h1 (qt_mk (c := 1) (by omega))))
theorem qt_vb (z : Int32) : vp_nar .byte z.toInt8.toInt32 = z.toInt8.toInt32 := by
  rw [vp_nar_byte]; simp
theorem qt_sum_hi (a : Nat → Int32) (m : Nat) (z : Int32) : ∀ n, n ≤ m → qt_sum (upd a m z) n = qt_sum a n := by
  intro n
  induction n with
  | zero => intro _; rfl
  | succ n ih =>
    intro h
    have e : upd a m z n = a n := if_neg (by omega)
    show qt_sum (upd a m z) n + upd a m z n = qt_sum a n + a n
    rw [ih (by omega), e]
theorem qt_sum_upd (a : Nat → Int32) (m : Nat) (z : Int32) : qt_sum (upd a m z) (m + 1) = qt_sum a m + z := by
  have e : upd a m z m = z := if_pos rfl
  show qt_sum (upd a m z) m + upd a m z m = qt_sum a m + z
  rw [qt_sum_hi a m z m (Nat.le_refl _), e]
theorem i_vc_push {k : Nat} {u : SX} {v : SY} (I : i_Rel k u v) (hk : k + 2 ≤ 1025) (v1 : Int32) : wpX_push (fun r u' => wpY_push (fun r' v' => r' = r ∧ i_Rel (k + 2) u' v') v v1) u v1 := by
  obtain ⟨c, m, a, hc, hm, rfl, rfl⟩ := I
  by_cases h : nI m < nI c
  · have hl : m < c := (nI_ltI (by omega) (by omega)).mp h
    have hi : vp_in (nI m) 8 := vp_in_nI (by omega) (by omega)
    refine br_t h ⟨hi, fun b eb x ex => br_t h ⟨hi, fun b' eb' t et y ey => ⟨ex.symm, c, m + 1, b, hc, hl, ?_, ?_⟩⟩⟩
    · rw [ex, nI_1]
    · rw [nI_clamp (by omega), qt_vb] at eb eb'
      rw [ey, nI_1, et, eb', eb, qt_sum_upd]
  · exact br_f h (br_f h ⟨rfl, c, m, a, hc, hm, rfl, rfl⟩)
theorem qt_neg : nI 0 - 1 < 0 := by decide +kernel
theorem qt_add (x : Int32) : x + (-1) = x - 1 := by grind
/-- both scans at once: one end q of the kept part, and the sum g' of what stands behind it -/
theorem qt_scan (a : Nat → Int32) (t cX mX cY mY tY : Int32) (m : Nat) (hm : m ≤ 8) : ∀ d : Nat, d ≤ m → ∀ (s best : Int64) (p : Nat) (gone g : Int32), p ≤ 8 → gone + qt_sum a d = qt_sum a m → g + qt_sum a p = qt_sum a m →
    ∃ (q : Nat) (g' : Int32), q ≤ 8 ∧ g' + qt_sum a q = qt_sum a m ∧
      (∀ post : Int32 → Prop, post (nI q) → wX_cutAt_19 post t cX mX a (d + 1) s best (nI p) (nI d - 1)) ∧
      (∀ (post : Int32 → Prop) (w : Int32), wY_scan_89 post w (nI q) g' cY mY tY a → wY_scan_25 post t w cY mY tY a (d + 1) s best (nI p) gone g (nI d - 1)) := by
  intro d
  induction d with
  | zero =>
    intro _ s best p gone g hp _ hg
    exact ⟨p, g, hp, hg, fun _ h => br_t qt_neg h, fun _ _ h => br_t qt_neg h⟩
  | succ d ih =>
    intro hd s best p gone g hp hgo hg
    have hi : vp_in (nI d) 8 := vp_in_nI (by omega) (by omega)
    have h0 : ¬ nI d < 0 := nI_pos (by omega)
    have hgo' : (gone + a (nI d).toNatClampNeg) + qt_sum a d = qt_sum a m := by
      rw [nI_clamp (by omega), ← hgo]
      show (gone + a d) + qt_sum a d = gone + (qt_sum a d + a d)
      grind
    rw [nI_pred]
    by_cases hs : 0 ≤ s + (t.toInt64 - (a (nI d).toNatClampNeg).toInt64)
    · by_cases hb : s + (t.toInt64 - (a (nI d).toNatClampNeg).toInt64) ≤ best
      · obtain ⟨q, g', hq, hg', hX, hY⟩ := ih (by omega) (s + (t.toInt64 - (a (nI d).toNatClampNeg).toInt64)) best p (gone + a (nI d).toNatClampNeg) g hp hgo' hg
        exact ⟨q, g', hq, hg',
          fun post h => br_f h0 ⟨hi, nm_e (br_t hs (br_t hb (nm_r (qt_add _) (hX post h))))⟩,
          fun post w h => br_f h0 ⟨hi, nm_e (br_t hs ⟨hi, nm_e (br_t hb (nm_r (qt_add _) (hY post w h)))⟩)⟩⟩
      · obtain ⟨q, g', hq, hg', hX, hY⟩ := ih (by omega) (s + (t.toInt64 - (a (nI d).toNatClampNeg).toInt64)) (s + (t.toInt64 - (a (nI d).toNatClampNeg).toInt64)) d (gone + a (nI d).toNatClampNeg) (gone + a (nI d).toNatClampNeg) (by omega) hgo' hgo'
        exact ⟨q, g', hq, hg',
          fun post h => br_f h0 ⟨hi, nm_e (br_t hs (br_f hb (nm_r (qt_add _) (hX post h))))⟩,
          fun post w h => br_f h0 ⟨hi, nm_e (br_t hs ⟨hi, nm_e (br_f hb (nm_r (qt_add _) (hY post w h)))⟩)⟩⟩
    · exact ⟨p, g, hp, hg, fun _ h => br_f h0 ⟨hi, nm_e (br_f hs h)⟩, fun _ _ h => br_f h0 ⟨hi, nm_e (br_f hs h)⟩⟩
theorem qt_all (a : Nat → Int32) (t cX mX cY mY tY : Int32) (m : Nat) (hm : m ≤ 8) :
    ∃ (q : Nat) (g' : Int32), q ≤ 8 ∧ g' + qt_sum a q = qt_sum a m ∧
      (∀ post : Int32 → Prop, post (nI q) → wX_cutAt_19 post t cX mX a (m + 1) 0 0 (nI m) (nI m - 1)) ∧
      (∀ (post : Int32 → Prop) (w : Int32), wY_scan_89 post w (nI q) g' cY mY tY a → wY_scan_25 post t w cY mY tY a (m + 1) 0 0 (nI m) 0 0 (nI m - 1)) :=
  qt_scan a t cX mX cY mY tY m hm m (Nat.le_refl _) 0 0 m 0 0 hm (by grind) (by grind)
theorem i_vc_cutAt {k : Nat} {u : SX} {v : SY} (I : i_Rel k u v) (hk : k + 2 ≤ 1025) (v1 : Int32) : wpX_cutAt (fun r => wpY_cutAt (fun r' => r' = r ∧ i_Rel (k + 2) u v) v v1) u v1 := by
  have I0 := I
  obtain ⟨c, m, a, hc, hm, rfl, rfl⟩ := I
  obtain ⟨q, g', hq, hg', hX, hY⟩ := qt_all a v1 (nI c) (nI m) (nI c) (nI m) (qt_sum a m) m (by omega)
  unfold wpX_cutAt wpY_cutAt wpY_scan
  dsimp only
  refine nm_e ⟨m + 1, hX _ ?_⟩
  refine nm_e ⟨m + 1, hY _ _ ?_⟩
  exact br_t rfl ⟨rfl, I0⟩
theorem qt_keep (a : Nat → Int32) (cX mX : Int32) (q : Nat) (hq : q ≤ 8) (post : Int32 → Prop) (h : post (qt_sum a q)) : ∀ d j : Nat, j + d = q → wX_kept_11 post (nI q) cX mX a (d + 1) (qt_sum a j) (nI j) := by
  intro d
  induction d with
  | zero =>
    intro j hj
    cases (show j = q by omega)
    exact br_t (nI_le (Nat.le_refl _) (by omega)) h
  | succ d ih =>
    intro j hj
    have hn : ¬ nI q ≤ nI j := nI_ge (by omega) (by omega)
    have hi : vp_in (nI j) 8 := vp_in_nI (by omega) (by omega)
    have e : qt_sum a j + a (nI j).toNatClampNeg = qt_sum a (j + 1) := by rw [nI_clamp (by omega)]; rfl
    exact br_f hn ⟨hi, nm_r e (nm_r (nI_1 j) (ih (j + 1) (by omega)))⟩
theorem qt_rest {g x y : Int32} (h : g + x = y) : y - g = x := by rw [← h]; grind
theorem i_vc_kept {k : Nat} {u : SX} {v : SY} (I : i_Rel k u v) (hk : k + 2 ≤ 1025) (v1 : Int32) : wpX_kept (fun r => wpY_kept (fun r' => r' = r ∧ i_Rel (k + 2) u v) v v1) u v1 := by
  have I0 := I
  obtain ⟨c, m, a, hc, hm, rfl, rfl⟩ := I
  obtain ⟨q, g', hq, hg', hX, hY⟩ := qt_all a v1 (nI c) (nI m) (nI c) (nI m) (qt_sum a m) m (by omega)
  unfold wpX_kept wpX_cutAt wpY_kept wpY_scan
  dsimp only
  refine nm_e ⟨m + 1, hX _ ⟨q + 1, ?_⟩⟩
  refine qt_keep a (nI c) (nI m) q hq _ ?_ q 0 (by omega)
  refine nm_e ⟨m + 1, hY _ _ ?_⟩
  exact br_f (by decide) ⟨qt_rest hg', I0⟩
theorem i_vc_count {k : Nat} {u : SX} {v : SY} (I : i_Rel k u v) (hk : k + 2 ≤ 1025) : wpX_count (fun r => wpY_count (fun r' => r' = r ∧ i_Rel (k + 2) u v) v) u := by
  have I0 := I
  obtain ⟨c, m, a, hc, hm, rfl, rfl⟩ := I
  exact ⟨rfl, I0⟩
end
