section
/-! plain rows about ints and array functions: no program in sight -/
theorem ro_sub {a b : Nat} (h : b ≤ a) : nI a - nI b = nI (a - b) := by
  obtain ⟨c, rfl⟩ : ∃ c, a = c + b := ⟨a - b, by omega⟩
  rw [← nI_add, Int32.add_sub_cancel, Nat.add_sub_cancel]
theorem ro_15 : nI 15 = 15 := by decide +kernel
theorem ro_16 : nI 16 = 16 := by decide +kernel
theorem ro_m1 {p : Nat} (hp : p < 2 ^ 31) : nI 0 - 1 ≤ nI p := by
  have e : (nI 0 - 1).toInt = -1 := by decide +kernel
  rw [Int32.le_iff_toInt_le, nI_toInt hp, e]
  omega
/-- cells p .. q - 1 reversed -/
def ro_rev (f : Nat → Int32) (p q : Nat) : Nat → Int32 := fun j => if p ≤ j ∧ j < q then f (p + q - 1 - j) else f j
theorem ro_rev_in {f : Nat → Int32} {p q j : Nat} (h1 : p ≤ j) (h2 : j < q) : ro_rev f p q j = f (p + q - 1 - j) := if_pos ⟨h1, h2⟩
theorem ro_rev_out {f : Nat → Int32} {p q j : Nat} (h : j < p ∨ q ≤ j) : ro_rev f p q j = f j := if_neg (fun z => by omega)
theorem ro_rev_0 {f : Nat → Int32} {p q : Nat} (h : q ≤ p + 1) : ro_rev f p q = f := by
  funext j
  by_cases hj : p ≤ j ∧ j < q
  · rw [ro_rev_in hj.1 hj.2]
    exact congrArg f (by omega)
  · exact ro_rev_out (by omega)
/-- one swap at the two ends, then the inner reversal -/
theorem ro_rev_s {f : Nat → Int32} {p q : Nat} (h : p < q) : ro_rev (upd (upd f p (f q)) q (f p)) (p + 1) q = ro_rev f p (q + 1) := by
  funext j
  by_cases h1 : j < p ∨ q < j
  · rw [ro_rev_out (by omega), ro_rev_out (by omega)]
    exact (if_neg (by omega)).trans (if_neg (by omega))
  · by_cases h2 : j = p
    · subst h2
      rw [ro_rev_out (by omega), ro_rev_in (by omega) (by omega)]
      refine ((if_neg (by omega)).trans (if_pos rfl)).trans ?_
      exact congrArg f (by omega)
    · by_cases h3 : j = q
      · subst h3
        rw [ro_rev_out (by omega), ro_rev_in (by omega) (by omega)]
        refine (if_pos rfl).trans ?_
        exact congrArg f (by omega)
      · rw [ro_rev_in (by omega) (by omega), ro_rev_in (by omega) (by omega)]
        refine ((if_neg (by omega)).trans (if_neg (by omega))).trans ?_
        exact congrArg f (by omega)
/-- blocks lo .. mid - 1 and mid .. hi - 1 exchanged -/
def ro_rot (f : Nat → Int32) (lo mid hi : Nat) : Nat → Int32 := fun j => if j < lo ∨ hi ≤ j then f j else if j < lo + (hi - mid) then f (j + (mid - lo)) else f (j - (hi - mid))
theorem ro_rot_o {f : Nat → Int32} {lo mid hi j : Nat} (h : j < lo ∨ hi ≤ j) : ro_rot f lo mid hi j = f j := if_pos h
theorem ro_rot_l {f : Nat → Int32} {lo mid hi j : Nat} (h1 : lo ≤ j) (h2 : j < hi) (h3 : j < lo + (hi - mid)) : ro_rot f lo mid hi j = f (j + (mid - lo)) := (if_neg (by omega)).trans (if_pos h3)
theorem ro_rot_r {f : Nat → Int32} {lo mid hi j : Nat} (h1 : lo ≤ j) (h2 : j < hi) (h3 : lo + (hi - mid) ≤ j) : ro_rot f lo mid hi j = f (j - (hi - mid)) := (if_neg (by omega)).trans (if_neg (by omega))
/-- three reversals exchange the blocks -/
theorem ro_three {f : Nat → Int32} {lo mid hi : Nat} (h1 : lo ≤ mid) (h2 : mid ≤ hi) : ro_rev (ro_rev (ro_rev f lo mid) mid hi) lo hi = ro_rot f lo mid hi := by
  funext j
  by_cases ho : j < lo ∨ hi ≤ j
  · rw [ro_rot_o ho, ro_rev_out ho, ro_rev_out (by omega), ro_rev_out (by omega)]
  · by_cases hc : j < lo + (hi - mid)
    · rw [ro_rot_l (by omega) (by omega) hc, ro_rev_in (by omega) (by omega), ro_rev_in (by omega) (by omega), ro_rev_out (by omega)]
      exact congrArg f (by omega)
    · rw [ro_rot_r (by omega) (by omega) (by omega), ro_rev_in (by omega) (by omega), ro_rev_out (by omega), ro_rev_in (by omega) (by omega)]
      exact congrArg f (by omega)
/-- beyond the sixteen cells nothing moves -/
theorem ro_rot_big {f b : Nat → Int32} {lo mid hi : Nat} (hh : hi ≤ 16) (hb : ∀ j, j < 16 → b j = ro_rot f lo mid hi j) : (fun j => if j < 16 then b j else f j) = ro_rot f lo mid hi := by
  funext j
  by_cases hj : j < 16
  · exact (if_pos hj).trans (hb j hj)
  · exact (if_neg hj).trans (ro_rot_o (by omega)).symm
end
section
/-! the three loops, each for a general post -/
theorem ro_xloop (post : SX → Prop) (t : Int64) : ∀ (n p q : Nat) (f : Nat → Int32), p ≤ 16 → q ≤ 16 → q ≤ p + n → post (t, ro_rev f p q) → wX_reverse_7 post t (n + 1) (nI p) (nI q - 1) f := by
  intro n
  induction n with
  | zero =>
    intro p q f hp hq hn hpost
    rw [ro_rev_0 (by omega)] at hpost
    have hle : nI q - 1 ≤ nI p := by
      cases q with
      | zero => exact ro_m1 (by omega)
      | succ q => rw [nI_pred]; exact nI_le (by omega) (by omega)
    exact br_t hle hpost
  | succ n ih =>
    intro p q f hp hq hn hpost
    by_cases hc : q ≤ p + 1
    · rw [ro_rev_0 hc] at hpost
      have hle : nI q - 1 ≤ nI p := by
        cases q with
        | zero => exact ro_m1 (by omega)
        | succ q => rw [nI_pred]; exact nI_le (by omega) (by omega)
      exact br_t hle hpost
    · obtain ⟨m, rfl⟩ : ∃ m, q = m + 1 := ⟨q - 1, by omega⟩
      rw [nI_pred]
      have hnl : ¬ nI m ≤ nI p := nI_ge (by omega) (by omega)
      have ip : vp_in (nI p) 16 := vp_in_nI (by omega) (by omega)
      have im : vp_in (nI m) 16 := vp_in_nI (by omega) (by omega)
      have cp : (nI p).toNatClampNeg = p := nI_clamp (by omega)
      have cm : (nI m).toNatClampNeg = m := nI_clamp (by omega)
      have key : wX_reverse_7 post t (n + 1) (nI (p + 1)) (nI m - 1) (upd (upd f p (f m)) m (f p)) :=
        ih (p + 1) m _ (by omega) (by omega) (by omega) (by rw [ro_rev_s (by omega)]; exact hpost)
      refine br_f hnl ⟨ip, ?_⟩
      intro y ey
      refine ⟨im, ip, ?_⟩
      intro a ea
      refine ⟨im, ?_⟩
      intro b eb x ex z ez
      rw [cp] at ey ea
      rw [cm] at ea eb
      rw [nI_1] at ex
      subst ey; subst ea; subst eb; subst ex; subst ez
      exact key
theorem ro_xrev (post : SX → Prop) (t : Int64) (f : Nat → Int32) {p q : Nat} (hp : p ≤ 16) (hq : q ≤ 16) (h : post (t, ro_rev f p q)) : wpX_reverse post (t, f) (nI p) (nI q) := by
  intro x ex
  subst ex
  exact ⟨q + 1, ro_xloop post t q p q f hp hq (by omega) h⟩
/-- the reference's second loop: copies b to a -/
theorem ro_yback (post : Int32 → SY → Prop) (x1 x3 x4 : Int32) (t : Int64) (f b : Nat → Int32) (hpost : post x4 (t + (x3 - x1).toInt64, (fun j => if j < 16 then b j else f j), b)) : ∀ (d k : Nat) (a : Nat → Int32), k + d = 16 → (a = fun j => if j < k then b j else f j) → wY_rotate_109 post x1 x3 x4 t (d + 1) (nI k) a b := by
  intro d
  induction d with
  | zero =>
    intro k a hk ha
    obtain rfl : k = 16 := by omega
    subst ha
    have h : (16 : Int32) ≤ nI 16 := by rw [← ro_16]; exact nI_le (by omega) (by omega)
    refine br_t h ?_
    intro y ey
    subst ey
    exact hpost
  | succ d ih =>
    intro k a hk ha
    have h : ¬ (16 : Int32) ≤ nI k := by rw [← ro_16]; exact nI_ge (by omega) (by omega)
    have ik : vp_in (nI k) 16 := vp_in_nI (by omega) (by omega)
    have ck : (nI k).toNatClampNeg = k := nI_clamp (by omega)
    have key : wY_rotate_109 post x1 x3 x4 t (d + 1) (nI (k + 1)) (upd a k (b k)) b := by
      refine ih (k + 1) _ (by omega) ?_
      subst ha
      funext j
      by_cases hj : j = k
      · subst hj
        exact (if_pos rfl).trans (if_pos (by omega)).symm
      · refine (if_neg hj).trans ?_
        by_cases hl : j < k
        · exact (if_pos hl).trans (if_pos (by omega)).symm
        · exact (if_neg hl).trans (if_neg (by omega)).symm
    refine br_f h ⟨ik, ik, ?_⟩
    intro y ey x ex
    rw [ck] at ey
    rw [nI_1] at ex
    subst ey; subst ex
    exact key
/-- the reference's first loop: fills b with the exchanged blocks -/
theorem ro_yfill (post : Int32 → SY → Prop) (t : Int64) (f : Nat → Int32) {lo mid hi : Nat} (h1 : lo ≤ mid) (h2 : mid ≤ hi) (h3 : hi ≤ 16) (hpost : ∀ b : Nat → Int32, post (nI (lo + (hi - mid))) (t + (nI hi - nI lo).toInt64, ro_rot f lo mid hi, b)) : ∀ (d k : Nat) (b : Nat → Int32), k + d = 16 → (∀ j, j < k → b j = ro_rot f lo mid hi j) → wY_rotate_32 post (nI lo) (nI mid) (nI hi) (nI (lo + (hi - mid))) t (d + 1) (nI k) f b := by
  intro d
  induction d with
  | zero =>
    intro k b hk hb
    obtain rfl : k = 16 := by omega
    have h : (16 : Int32) ≤ nI 16 := by rw [← ro_16]; exact nI_le (by omega) (by omega)
    refine br_t h ⟨17, ?_⟩
    have hq := hpost b
    rw [← ro_rot_big h3 hb] at hq
    have e0 : f = fun j => if j < 0 then b j else f j := funext fun j => (if_neg (by omega)).symm
    have key := ro_yback post (nI lo) (nI hi) (nI (lo + (hi - mid))) t f b hq 16 0 f rfl e0
    rw [nI_0] at key
    exact key
  | succ d ih =>
    intro k b hk hb
    have h : ¬ (16 : Int32) ≤ nI k := by rw [← ro_16]; exact nI_ge (by omega) (by omega)
    have ik : vp_in (nI k) 16 := vp_in_nI (by omega) (by omega)
    have ck : (nI k).toNatClampNeg = k := nI_clamp (by omega)
    have key : ∀ y : Int32, y = ro_rot f lo mid hi k → wY_rotate_32 post (nI lo) (nI mid) (nI hi) (nI (lo + (hi - mid))) t (d + 1) (nI (k + 1)) f (upd b k y) := by
      intro y ey
      refine ih (k + 1) _ (by omega) ?_
      intro j hj
      by_cases hjk : j = k
      · subst hjk
        exact (if_pos rfl).trans ey
      · exact (if_neg hjk).trans (hb j (by omega))
    have same : (k < lo ∨ hi ≤ k) → wY_rotate_57 post (wY_rotate_32 post (nI lo) (nI mid) (nI hi) (nI (lo + (hi - mid))) t (d + 1)) (nI lo) (nI mid) (nI hi) (nI (lo + (hi - mid))) (nI k) (nI k) t f b := by
      intro ho
      refine And.intro ik (And.intro ik ?_)
      intro y ey x ex
      rw [ck] at ey
      rw [nI_1] at ex
      subst ey; subst ex
      exact key (f k) (ro_rot_o ho).symm
    refine br_f h ?_
    by_cases hlo : k < lo
    · exact br_t (nI_lt hlo (by omega)) (same (Or.inl hlo))
    · refine br_f (nI_nlt (by omega) (by omega)) ?_
      by_cases hhi : k < hi
      · refine br_t (nI_lt hhi (by omega)) ?_
        by_cases hc : lo + (hi - mid) ≤ k
        · refine br_t (nI_le hc (by omega)) ?_
          have es : nI k - (nI hi - nI mid) = nI (k - (hi - mid)) := by rw [ro_sub (by omega), ro_sub (by omega)]
          rw [es]
          refine ⟨vp_in_nI (by omega) (by omega), ik, ?_⟩
          intro y ey x ex
          rw [ck, nI_clamp (by omega)] at ey
          rw [nI_1] at ex
          subst ey; subst ex
          exact key _ (ro_rot_r (by omega) hhi hc).symm
        · refine br_f (nI_ge (by omega) (by omega)) ?_
          have es : nI k + (nI mid - nI lo) = nI (k + (mid - lo)) := by rw [ro_sub (by omega), nI_add]
          rw [es]
          refine ⟨vp_in_nI (by omega) (by omega), ik, ?_⟩
          intro y ey x ex
          rw [ck, nI_clamp (by omega)] at ey
          rw [nI_1] at ex
          subst ey; subst ex
          exact key _ (ro_rot_l (by omega) hhi (by omega)).symm
      · exact br_f (nI_nlt (by omega) (by omega)) (same (Or.inr (by omega)))
end
section
/-- the tallies are equal, the sixteen cells are one function; the scratch array is free -/
def i_Rel (_ : Nat) (u : SX) (v : SY) : Prop := ∃ (t : Int64) (f b : Nat → Int32), u = (t, f) ∧ v = (t, f, b)
theorem i_up {k : Nat} {u : SX} {v : SY} (h : i_Rel k u v) : i_Rel (k + 4) u v := h
theorem i_vc0 : wpX_init (fun u => wpY_init (fun v => i_Rel 0 u v)) := ⟨0, _, _, rfl, rfl⟩
theorem ro_ix {x : Int32} (h0 : ¬ x < 0) (h : x ≤ 15) : vp_in x 16 := by
  obtain ⟨j, hj, rfl⟩ := nI_of2 (n := 15) (by decide) h0 h
  exact vp_in_nI (by omega) (by omega)
theorem i_vc_put {k : Nat} {u : SX} {v : SY} (I : i_Rel k u v) (hk : k + 4 ≤ 2048) (v1 : Int32) (v2 : Int32) : wpX_put (fun r u' => wpY_put (fun r' v' => r' = r ∧ i_Rel (k + 4) u' v') v v1 v2) u v1 v2 := by
  obtain ⟨t, f, b, rfl, rfl⟩ := I
  by_cases h0 : v1 < 0
  · exact br_t h0 (br_t h0 ⟨rfl, t, f, b, rfl, rfl⟩)
  · by_cases h15 : v1 ≤ 15
    · have hi := ro_ix h0 h15
      refine br_f h0 (br_t h15 ⟨hi, ?_⟩)
      intro a ea
      refine br_f h0 (br_t h15 ⟨hi, ?_⟩)
      intro c ec
      subst ea; subst ec
      exact ⟨rfl, t, _, b, rfl, rfl⟩
    · exact br_f h0 (br_f h15 (br_f h0 (br_f h15 ⟨rfl, t, f, b, rfl, rfl⟩)))
theorem ro_xrot (post : Int32 → SX → Prop) (t : Int64) (f : Nat → Int32) {lo mid hi : Nat} (h1 : lo ≤ mid) (h2 : mid ≤ hi) (h3 : hi ≤ 16) (h : post (nI (lo + (hi - mid))) (t + (nI hi - nI lo).toInt64, ro_rot f lo mid hi)) : wpX_rotate post (t, f) (nI lo) (nI mid) (nI hi) := by
  have l16 : nI hi ≤ 16 := by rw [← ro_16]; exact nI_le h3 (by omega)
  refine br_f (nI_pos (by omega)) (br_f (nI_nlt h1 (by omega)) (br_f (nI_nlt h2 (by omega)) (br_t l16 ?_)))
  refine ro_xrev _ t f (by omega) (by omega) ?_
  refine ro_xrev _ t _ (by omega) (by omega) ?_
  refine ro_xrev _ t _ (by omega) (by omega) ?_
  intro y ey
  subst ey
  rw [ro_three h1 h2, ro_sub h2, nI_add]
  exact h
theorem ro_yrot (post : Int32 → SY → Prop) (t : Int64) (f b : Nat → Int32) {lo mid hi : Nat} (h1 : lo ≤ mid) (h2 : mid ≤ hi) (h3 : hi ≤ 16) (h : ∀ b' : Nat → Int32, post (nI (lo + (hi - mid))) (t + (nI hi - nI lo).toInt64, ro_rot f lo mid hi, b')) : wpY_rotate post (t, f, b) (nI lo) (nI mid) (nI hi) := by
  have l16 : nI hi ≤ 16 := by rw [← ro_16]; exact nI_le h3 (by omega)
  refine br_f (nI_pos (by omega)) (br_f (nI_nlt h1 (by omega)) (br_f (nI_nlt h2 (by omega)) (br_t l16 ?_)))
  intro y ey
  rw [ro_sub h2, nI_add] at ey
  subst ey
  have key := ro_yfill post t f h1 h2 h3 h 16 0 b rfl (fun j hj => absurd hj (by omega))
  rw [nI_0] at key
  exact ⟨17, key⟩
theorem i_vc_rotate {k : Nat} {u : SX} {v : SY} (I : i_Rel k u v) (hk : k + 4 ≤ 2048) (v1 : Int32) (v2 : Int32) (v3 : Int32) : wpX_rotate (fun r u' => wpY_rotate (fun r' v' => r' = r ∧ i_Rel (k + 4) u' v') v v1 v2 v3) u v1 v2 v3 := by
  obtain ⟨t, f, b, rfl, rfl⟩ := I
  by_cases c0 : v1 < 0
  · exact br_t c0 (br_t c0 ⟨rfl, t, f, b, rfl, rfl⟩)
  by_cases c1 : v2 < v1
  · exact br_f c0 (br_t c1 (br_f c0 (br_t c1 ⟨rfl, t, f, b, rfl, rfl⟩)))
  by_cases c2 : v3 < v2
  · exact br_f c0 (br_f c1 (br_t c2 (br_f c0 (br_f c1 (br_t c2 ⟨rfl, t, f, b, rfl, rfl⟩)))))
  by_cases c3 : v3 ≤ 16
  · have d1 : v1 ≤ v2 := Int32.not_lt.mp c1
    have d2 : v2 ≤ v3 := Int32.not_lt.mp c2
    obtain ⟨lo, hlo, rfl⟩ := nI_of2 (n := 16) (by decide) c0 (Int32.le_trans d1 (Int32.le_trans d2 c3))
    have p2 : ¬ v2 < 0 := Int32.not_lt.mpr (Int32.le_trans (Int32.not_lt.mp c0) d1)
    obtain ⟨mid, hmid, rfl⟩ := nI_of2 (n := 16) (by decide) p2 (Int32.le_trans d2 c3)
    have p3 : ¬ v3 < 0 := Int32.not_lt.mpr (Int32.le_trans (Int32.not_lt.mp p2) d2)
    obtain ⟨hi, hhi, rfl⟩ := nI_of2 (n := 16) (by decide) p3 c3
    have e1 : lo ≤ mid := (nI_leI (by omega) (by omega)).mp d1
    have e2 : mid ≤ hi := (nI_leI (by omega) (by omega)).mp d2
    refine ro_xrot _ t f e1 e2 hhi ?_
    refine ro_yrot _ t f b e1 e2 hhi ?_
    intro b'
    exact ⟨rfl, _, _, b', rfl, rfl⟩
  · exact br_f c0 (br_f c1 (br_f c2 (br_f c3 (br_f c0 (br_f c1 (br_f c2 (br_f c3 ⟨rfl, t, f, b, rfl, rfl⟩)))))))
theorem i_vc_at {k : Nat} {u : SX} {v : SY} (I : i_Rel k u v) (hk : k + 4 ≤ 2048) (v1 : Int32) : wpX_at (fun r => wpY_at (fun r' => r' = r ∧ i_Rel (k + 4) u v) v v1) u v1 := by
  obtain ⟨t, f, b, rfl, rfl⟩ := I
  by_cases h0 : v1 < 0
  · exact br_t h0 (br_t h0 ⟨rfl, t, f, b, rfl, rfl⟩)
  · by_cases h15 : v1 ≤ 15
    · have hi := ro_ix h0 h15
      exact br_f h0 (br_t h15 ⟨hi, br_f h0 (br_t h15 ⟨hi, rfl, t, f, b, rfl, rfl⟩)⟩)
    · exact br_f h0 (br_f h15 (br_f h0 (br_f h15 ⟨rfl, t, f, b, rfl, rfl⟩)))
theorem i_vc_moved {k : Nat} {u : SX} {v : SY} (I : i_Rel k u v) (hk : k + 4 ≤ 2048) : wpX_moved (fun r => wpY_moved (fun r' => r' = r ∧ i_Rel (k + 4) u v) v) u := by
  obtain ⟨t, f, b, rfl, rfl⟩ := I
  exact ⟨rfl, t, f, b, rfl, rfl⟩
end
