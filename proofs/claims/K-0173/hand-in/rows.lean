section
/-! pure rows for LimbCompare: the used length, the unsigned compare. The pk_ rows are from kit/rows -/
theorem pk_us {f : Nat → Int32} {k : Nat} {x : Int32} : upd f k x k = x := if_pos rfl
theorem pk_un {f : Nat → Int32} {k j : Nat} {x : Int32} (h : j ≠ k) : upd f k x j = f j := if_neg h
theorem pk_m1 (n : Nat) : nI (n + 1) + (-1) = nI n := by
  rw [← nI_1, Int32.add_assoc, show (1 : Int32) + (-1) = 0 from rfl, Int32.add_zero]
theorem pk_mul (a b : Nat) : nI a * nI b = nI (a * b) := (Int32.ofNat_mul a b).symm
theorem pk_nb (z : Int32) : narrow .byte (.int z.toInt8.toInt32) = .int z.toInt8.toInt32 := congrArg Value.int (by simp)
theorem pk_fb (r : Int32) : fits .byte (.int r.toInt8.toInt32) = true := by
  have ⟨a, b⟩ := lg_i2b_range r
  have h1 : (-128 : Int32).toInt = -128 := by decide
  have h2 : (127 : Int32).toInt = 127 := by decide
  simp only [fits, Bool.and_eq_true, decide_eq_true_eq, Int32.le_iff_toInt_le, h1, h2]
  omega
theorem pk_vs (z : Int32) : vp_nar .short z.toInt16.toInt32 = z.toInt16.toInt32 := by rw [vp_nar_short]; simp

/-- n is the used length of the four digits of a -/
def lc_L (a : Nat → Int32) (n : Nat) : Prop := n ≤ 4 ∧ (∀ j, n ≤ j → j < 4 → a j = 0) ∧ (∀ j, j + 1 = n → ¬ a j = 0)
/-- a digit that isn't zero isn't zero as an unsigned 16-bit number either -/
def lc_sh (a : Nat → Int32) : Prop := ∀ j, ¬ a j = 0 → ¬ (a j &&& 65535) ≤ 0

theorem lc_b8 {n : Nat} (h : n ≤ 4) : (nI n).toInt8.toInt32 = nI n :=
  lg_i2b_small (by rw [nI_toInt (by omega)]; omega) (by rw [nI_toInt (by omega)]; omega)
theorem lc_s16 (z : Int32) (h : ¬ z.toInt16.toInt32 = 0) : ¬ (z.toInt16.toInt32 &&& 65535) ≤ 0 := by
  have hr := lg_i2s_range z
  have hm := lg_i2c_toInt z.toInt16.toInt32
  rw [lg_i2c_mask] at hm
  rw [← Int32.toInt_inj, Int32.toInt_zero] at h
  rw [Int32.le_iff_toInt_le, Int32.toInt_zero, hm]
  omega
theorem lc_sh0 : lc_sh (fun _ => 0) := fun _ h => absurd rfl h
theorem lc_shU {a : Nat → Int32} (h : lc_sh a) (j : Nat) (z : Int32) : lc_sh (upd a j z.toInt16.toInt32) := by
  intro k hk
  by_cases e : k = j
  · subst e
    rw [pk_us] at hk ⊢
    exact lc_s16 z hk
  · rw [pk_un e] at hk ⊢
    exact h k hk

theorem lc_L0 : lc_L (fun _ => 0) 0 := ⟨Nat.zero_le _, fun _ _ _ => rfl, fun j h => absurd h (by omega)⟩
/-- the highest digit that isn't zero gives the length -/
theorem lc_top {a : Nat → Int32} {n k : Nat} (L : lc_L a n) (hk : k < 4) (h : ¬ a k = 0) (hz : ∀ j, k < j → j < 4 → a j = 0) : n = k + 1 := by
  obtain ⟨h4, h0, h1⟩ := L
  rcases Nat.lt_or_ge k n with c | c
  · rcases Nat.lt_or_ge (k + 1) n with d | d
    · exact absurd (hz (n - 1) (by omega) (by omega)) (h1 (n - 1) (by omega))
    · omega
  · exact absurd (h0 k c hk) h
/-- digits that are zero from m on: the length is m at most -/
theorem lc_le {a : Nat → Int32} {n m : Nat} (L : lc_L a n) (hz : ∀ j, m ≤ j → j < 4 → a j = 0) : n ≤ m := by
  obtain ⟨h4, h0, h1⟩ := L
  rcases Nat.lt_or_ge m n with c | c
  · exact absurd (hz (n - 1) (by omega) (by omega)) (h1 (n - 1) (by omega))
  · exact c
theorem lc_find (a : Nat → Int32) : ∀ m, m ≤ 4 → (∀ j, m ≤ j → j < 4 → a j = 0) → ∃ n, lc_L a n := by
  intro m
  induction m with
  | zero => exact fun h z => ⟨0, h, z, fun j h => absurd h (by omega)⟩
  | succ m ih =>
    intro h z
    by_cases c : a m = 0
    · refine ih (by omega) fun j hj h4 => ?_
      rcases Nat.lt_or_ge m j with d | d
      · exact z j d h4
      · rw [show j = m by omega]; exact c
    · refine ⟨m + 1, h, z, fun j hj => ?_⟩
      rw [show j = m by omega]; exact c
theorem lc_any (a : Nat → Int32) : ∃ n, lc_L a n := lc_find a 4 (by omega) (fun j _ _ => absurd (a := j < 4) (by omega) (by omega))
theorem lc_put1 {a : Nat → Int32} {n j : Nat} {d : Int32} (L : lc_L a n) (hd : ¬ d = 0) (h : j + 1 ≤ n) : lc_L (upd a j d) n := by
  obtain ⟨h4, h0, h1⟩ := L
  refine ⟨h4, fun k hk k4 => ?_, fun k hk => ?_⟩
  · rw [pk_un (by omega)]; exact h0 k hk k4
  · by_cases e : k = j
    · subst e; rw [pk_us]; exact hd
    · rw [pk_un e]; exact h1 k hk
theorem lc_put2 {a : Nat → Int32} {n j : Nat} {d : Int32} (L : lc_L a n) (hj : j < 4) (hd : ¬ d = 0) (h : n < j + 1) : lc_L (upd a j d) (j + 1) := by
  obtain ⟨h4, h0, h1⟩ := L
  refine ⟨hj, fun k hk k4 => ?_, fun k hk => ?_⟩
  · rw [pk_un (by omega)]; exact h0 k (by omega) k4
  · rw [show k = j by omega, pk_us]; exact hd
theorem lc_put0 {a : Nat → Int32} {n j n' : Nat} {d : Int32} (L : lc_L a n) (hd : d = 0) (L' : lc_L (upd a j d) n') : n' ≤ n := by
  refine lc_le L' fun k hk k4 => ?_
  by_cases e : k = j
  · subst e; rw [pk_us]; exact hd
  · rw [pk_un e]; exact L.2.1 k hk k4

/-- the answer of a compare over the digits below j, from the highest down -/
def lc_cm (a b : Nat → Int32) : Nat → Int32
  | 0 => 0
  | j + 1 => if (b j &&& 65535) ≤ (a j &&& 65535) then (if (a j &&& 65535) ≤ (b j &&& 65535) then lc_cm a b j else 1) else -1
theorem lc_cm_e {a b : Nat → Int32} {n : Nat} : ∀ k, n ≤ k → (∀ j, n ≤ j → j < k → a j = b j) → lc_cm a b k = lc_cm a b n := by
  intro k
  induction k with
  | zero => intro h _; rw [show n = 0 by omega]
  | succ k ih =>
    intro h z
    rcases Nat.lt_or_ge n (k + 1) with c | c
    · have e : a k = b k := z k (by omega) (by omega)
      have q : (b k &&& 65535) ≤ (a k &&& 65535) := by rw [e]; exact Int32.le_refl _
      have q' : (a k &&& 65535) ≤ (b k &&& 65535) := by rw [e]; exact Int32.le_refl _
      rw [lc_cm, if_pos q, if_pos q']
      exact ih (by omega) fun j h1 h2 => z j h1 (by omega)
    · rw [show n = k + 1 by omega]
theorem lc_cm_le {a b : Nat → Int32} {n m : Nat} (La : lc_L a n) (Lb : lc_L b m) (h : n = m) : lc_cm a b 4 = lc_cm a b n := by
  subst h
  exact lc_cm_e 4 La.1 fun j h1 h2 => (La.2.1 j h1 h2).trans (Lb.2.1 j h1 h2).symm
theorem lc_z : (0 : Int32) &&& 65535 = 0 := by decide
theorem lc_cm_lt {a b : Nat → Int32} {n m : Nat} (La : lc_L a n) (Lb : lc_L b m) (sb : lc_sh b) (h : n < m) : lc_cm a b 4 = -1 := by
  obtain ⟨k, rfl⟩ : ∃ k, m = k + 1 := ⟨m - 1, by omega⟩
  rw [lc_cm_e (n := k + 1) 4 Lb.1 fun j h1 h2 => (La.2.1 j (by omega) h2).trans (Lb.2.1 j h1 h2).symm, lc_cm, La.2.1 k (by omega) (by have := Lb.1; omega), lc_z, if_neg (sb k (Lb.2.2 k rfl))]
theorem lc_cm_gt {a b : Nat → Int32} {n m : Nat} (La : lc_L a n) (Lb : lc_L b m) (sa : lc_sh a) (h : m < n) : lc_cm a b 4 = 1 := by
  obtain ⟨k, rfl⟩ : ∃ k, n = k + 1 := ⟨n - 1, by omega⟩
  have q := sa k (La.2.2 k rfl)
  have q' : (0 : Int32) ≤ (a k &&& 65535) := Int32.le_of_lt (Int32.not_le.mp q)
  rw [lc_cm_e (n := k + 1) 4 La.1 fun j h1 h2 => (La.2.1 j h1 h2).trans (Lb.2.1 j (by omega) h2).symm, lc_cm, Lb.2.1 k (by omega) (by have := La.1; omega), lc_z, if_pos q', if_neg q]
/-- a number that isn't negative and isn't above one -/
theorem lc_01 {v : Int32} (h : ¬ v < 0) (h1 : v ≤ 1) : v = 0 ∨ v = 1 := by
  obtain ⟨j, hj, rfl⟩ := nI_of2 (M := 1) (n := 1) (by decide) h h1
  rcases (by omega : j = 0 ∨ j = 1) with rfl | rfl
  · exact Or.inl rfl
  · exact Or.inr rfl
end
section
/-! the walks of both sides against the pure rows, over a general post -/
theorem lc_xa {fa fb : Int32} {a b : Nat → Int32} {n : Nat} (L : lc_L a n) : ∀ m, n ≤ m → m ≤ 4 → ∀ post : Int32 → SX → Prop, post (nI n) (nI n, fb, a, b) → wX_put_66 post fa fb a b (m + 1) (nI m) := by
  intro m
  induction m with
  | zero =>
    intro h h4 post hp
    obtain rfl : n = 0 := by omega
    refine br_t (by decide) ⟨pk_nb _, pk_fb _, ?_⟩
    rw [lc_b8 (by omega)]; exact hp
  | succ m ih =>
    intro h h4 post hp
    have hi : vp_in (nI (m + 1) - 1) 4 := by rw [nI_pred]; exact vp_in_nI (by omega) (by omega)
    have hz : a (nI (m + 1) - 1).toNatClampNeg = a m := by rw [nI_pred, nI_clamp (by omega)]
    rcases Nat.lt_or_ge n (m + 1) with c | c
    · exact br_f (nI_nle (by omega) (by omega)) ⟨hi, br_t (hz.trans (L.2.1 m (by omega) (by omega))) (nm_r (nI_pred m) (ih (by omega) (by omega) post hp))⟩
    · obtain rfl : n = m + 1 := by omega
      refine br_f (nI_nle (by omega) (by omega)) ⟨hi, br_f (fun z => L.2.2 m rfl (hz.symm.trans z)) ⟨pk_nb _, pk_fb _, ?_⟩⟩
      rw [lc_b8 (by omega)]; exact hp
theorem lc_xb {fa fb : Int32} {a b : Nat → Int32} {n : Nat} (L : lc_L b n) : ∀ m, n ≤ m → m ≤ 4 → ∀ post : Int32 → SX → Prop, post (nI n) (fa, nI n, a, b) → wX_put_137 post fa fb a b (m + 1) (nI m) := by
  intro m
  induction m with
  | zero =>
    intro h h4 post hp
    obtain rfl : n = 0 := by omega
    refine br_t (by decide) ⟨pk_nb _, pk_fb _, ?_⟩
    rw [lc_b8 (by omega)]; exact hp
  | succ m ih =>
    intro h h4 post hp
    have hi : vp_in (nI (m + 1) - 1) 4 := by rw [nI_pred]; exact vp_in_nI (by omega) (by omega)
    have hz : b (nI (m + 1) - 1).toNatClampNeg = b m := by rw [nI_pred, nI_clamp (by omega)]
    rcases Nat.lt_or_ge n (m + 1) with c | c
    · exact br_f (nI_nle (by omega) (by omega)) ⟨hi, br_t (hz.trans (L.2.1 m (by omega) (by omega))) (nm_r (nI_pred m) (ih (by omega) (by omega) post hp))⟩
    · obtain rfl : n = m + 1 := by omega
      refine br_f (nI_nle (by omega) (by omega)) ⟨hi, br_f (fun z => L.2.2 m rfl (hz.symm.trans z)) ⟨pk_nb _, pk_fb _, ?_⟩⟩
      rw [lc_b8 (by omega)]; exact hp
theorem lc_3 {j : Nat} (h : j < 4) : nI j ≤ 3 := nI_le (a := j) (b := 3) (by omega) (by omega)
theorem lc_st {a : Nat → Int32} {j : Nat} (z : Int32) (h : j < 4) : upd a (nI j).toNatClampNeg (vp_nar .short z.toInt16.toInt32) = upd a j z.toInt16.toInt32 := by
  rw [nI_clamp (by omega), pk_vs]
theorem lc_p0 {a b : Nat → Int32} {fb : Int32} {n j : Nat} (z : Int32) (L : lc_L a n) (hj : j < 4) : ∃ n', lc_L (upd a j z.toInt16.toInt32) n' ∧ ∀ post : Int32 → SX → Prop, post (nI n') (nI n', fb, upd a j z.toInt16.toInt32, b) → wX_put_11 post 0 (nI j) z (nI n) fb a b := by
  have h4 := L.1
  by_cases hd : z.toInt16.toInt32 = 0
  · obtain ⟨n', L'⟩ := lc_any (upd a j z.toInt16.toInt32)
    exact ⟨n', L', fun post hp => br_f (nI_pos (by omega)) (br_t (lc_3 hj) (br_t rfl ⟨vp_in_nI hj (by omega), nm_r (lc_st z hj) (br_t hd ⟨n + 1, lc_xa L' n (lc_put0 L hd L') h4 post hp⟩)⟩))⟩
  · rcases Nat.lt_or_ge n (j + 1) with c | c
    · refine ⟨j + 1, lc_put2 L hj hd c, fun post hp => br_f (nI_pos (by omega)) (br_t (lc_3 hj) (br_t rfl ⟨vp_in_nI hj (by omega), nm_r (lc_st z hj) (br_f hd (br_f ?_ (nm_r (nI_1 j) ⟨pk_nb _, pk_fb _, ?_⟩)))⟩))⟩
      · rw [nI_1]; exact nI_ge c (by omega)
      · rw [lc_b8 (by omega)]; exact hp
    · refine ⟨n, lc_put1 L hd c, fun post hp => br_f (nI_pos (by omega)) (br_t (lc_3 hj) (br_t rfl ⟨vp_in_nI hj (by omega), nm_r (lc_st z hj) (br_f hd (br_t ?_ ⟨pk_nb _, pk_fb _, ?_⟩))⟩))⟩
      · rw [nI_1]; exact nI_le c (by omega)
      · rw [lc_b8 (by omega)]; exact hp
theorem lc_p1 {a b : Nat → Int32} {fa : Int32} {n j : Nat} (z : Int32) (L : lc_L b n) (hj : j < 4) : ∃ n', lc_L (upd b j z.toInt16.toInt32) n' ∧ ∀ post : Int32 → SX → Prop, post (nI n') (fa, nI n', a, upd b j z.toInt16.toInt32) → wX_put_11 post 1 (nI j) z fa (nI n) a b := by
  have h4 := L.1
  have h10 : ¬ (1 : Int32) = 0 := by decide
  by_cases hd : z.toInt16.toInt32 = 0
  · obtain ⟨n', L'⟩ := lc_any (upd b j z.toInt16.toInt32)
    exact ⟨n', L', fun post hp => br_f (nI_pos (by omega)) (br_t (lc_3 hj) (br_f h10 ⟨vp_in_nI hj (by omega), nm_r (lc_st z hj) (br_t hd ⟨n + 1, lc_xb L' n (lc_put0 L hd L') h4 post hp⟩)⟩))⟩
  · rcases Nat.lt_or_ge n (j + 1) with c | c
    · refine ⟨j + 1, lc_put2 L hj hd c, fun post hp => br_f (nI_pos (by omega)) (br_t (lc_3 hj) (br_f h10 ⟨vp_in_nI hj (by omega), nm_r (lc_st z hj) (br_f hd (br_f ?_ (nm_r (nI_1 j) ⟨pk_nb _, pk_fb _, ?_⟩)))⟩))⟩
      · rw [nI_1]; exact nI_ge c (by omega)
      · rw [lc_b8 (by omega)]; exact hp
    · refine ⟨n, lc_put1 L hd c, fun post hp => br_f (nI_pos (by omega)) (br_t (lc_3 hj) (br_f h10 ⟨vp_in_nI hj (by omega), nm_r (lc_st z hj) (br_f hd (br_t ?_ ⟨pk_nb _, pk_fb _, ?_⟩))⟩))⟩
      · rw [nI_1]; exact nI_le c (by omega)
      · rw [lc_b8 (by omega)]; exact hp

/-- the reference's length, magnitude w -/
theorem lc_yl {d a : Nat → Int32} {n w : Nat} (hw : w < 2) (hd : ∀ j, j < 4 → d (w * 4 + j) = a j) (L : lc_L a n) (post : Int32 → Prop) (hp : post (nI n)) : wpY_len post d (nI w) := by
  have em : nI w * 4 = nI (w * 4) := pk_mul w 4
  have e3 : nI (w * 4) + 3 = nI (w * 4 + 3) := nI_add (w * 4) 3
  have e2 : nI (w * 4) + 2 = nI (w * 4 + 2) := nI_add (w * 4) 2
  have e1 : nI (w * 4) + 1 = nI (w * 4 + 1) := nI_add (w * 4) 1
  have c0 : d (nI (w * 4)).toNatClampNeg = a 0 := by rw [nI_clamp (by omega)]; exact hd 0 (by omega)
  have g1 : d (nI (w * 4 + 1)).toNatClampNeg = a 1 := by rw [nI_clamp (by omega)]; exact hd 1 (by omega)
  have g2 : d (nI (w * 4 + 2)).toNatClampNeg = a 2 := by rw [nI_clamp (by omega)]; exact hd 2 (by omega)
  have g3 : d (nI (w * 4 + 3)).toNatClampNeg = a 3 := by rw [nI_clamp (by omega)]; exact hd 3 (by omega)
  have h1 : nI w ≤ 1 := nI_le (a := w) (b := 1) (by omega) (by omega)
  refine br_f (nI_pos (by omega)) (br_t h1 (nm_r em ?_))
  rw [e3, e2, e1, g3, g2, g1, c0]
  refine And.intro (vp_in_nI (by omega) (by omega)) (br_c (fun z3 => And.intro (vp_in_nI (by omega) (by omega)) (br_c (fun z2 => And.intro (vp_in_nI (by omega) (by omega)) (br_c (fun z1 => And.intro (vp_in_nI (by omega) (by omega)) (br_c (fun z0 => ?_) (fun z0 => ?_))) (fun z1 => ?_))) (fun z2 => ?_))) (fun z3 => ?_))
  · have hn : n ≤ 0 := lc_le L fun j _ h4 => by
      rcases (by omega : j = 0 ∨ j = 1 ∨ j = 2 ∨ j = 3) with rfl | rfl | rfl | rfl
      · exact z0
      · exact z1
      · exact z2
      · exact z3
    rw [show n = 0 by omega] at hp
    exact hp
  · rw [lc_top L (k := 0) (by omega) z0 fun j h h4 => by
      rcases (by omega : j = 1 ∨ j = 2 ∨ j = 3) with rfl | rfl | rfl
      · exact z1
      · exact z2
      · exact z3] at hp
    exact hp
  · rw [lc_top L (k := 1) (by omega) z1 fun j h h4 => by
      rcases (by omega : j = 2 ∨ j = 3) with rfl | rfl
      · exact z2
      · exact z3] at hp
    exact hp
  · rw [lc_top L (k := 2) (by omega) z2 fun j h h4 => by
      rw [show j = 3 by omega]; exact z3] at hp
    exact hp
  · rw [lc_top L (k := 3) (by omega) z3 fun j h h4 => absurd h (by omega)] at hp
    exact hp
/-- the reference's put, magnitude w, digit j -/
theorem lc_yp {d : Nat → Int32} {w j : Nat} (z : Int32) (hw : w < 2) (hj : j < 4) (post : Int32 → SY → Prop) (h : wpY_len (fun r => post r (upd d (w * 4 + j) z.toInt16.toInt32)) (upd d (w * 4 + j) z.toInt16.toInt32) (nI w)) : wpY_put post d (nI w) (nI j) z := by
  have em : nI w * 4 + nI j = nI (w * 4 + j) := by rw [show nI w * 4 = nI (w * 4) from pk_mul w 4, nI_add]
  have hi : vp_in (nI w * 4 + nI j) 8 := by rw [em]; exact vp_in_nI (by omega) (by omega)
  have es : upd d (nI w * 4 + nI j).toNatClampNeg (vp_nar .short z.toInt16.toInt32) = upd d (w * 4 + j) z.toInt16.toInt32 := by
    rw [em, nI_clamp (by omega), pk_vs]
  have h1 : nI w ≤ 1 := nI_le (a := w) (b := 1) (by omega) (by omega)
  exact br_f (nI_pos (by omega)) (br_t h1 (br_f (nI_pos (by omega)) (br_t (lc_3 hj) ⟨hi, nm_r es h⟩)))

theorem lc_cx {fa fb : Int32} {a b : Nat → Int32} : ∀ j, j ≤ 4 → ∀ post : Int32 → Prop, post (lc_cm a b j) → wX_cmp_28 post fa fb a b (j + 1) (nI j + (-1)) := by
  intro j
  induction j with
  | zero => exact fun _ post hp => br_t (by decide) hp
  | succ j ih =>
    intro h4 post hp
    have hi : vp_in (nI j) 4 := vp_in_nI (by omega) (by omega)
    have ec : (nI j).toNatClampNeg = j := nI_clamp (by omega)
    rw [pk_m1]
    refine br_f (nI_pos (by omega)) (And.intro hi (nm_r (congrArg (fun q => a q &&& 65535) ec) (And.intro hi (nm_r (congrArg (fun q => b q &&& 65535) ec) ?_))))
    show ((b j &&& 65535) ≤ (a j &&& 65535) → _) ∧ (¬ (b j &&& 65535) ≤ (a j &&& 65535) → _)
    rw [lc_cm] at hp
    by_cases q : (b j &&& 65535) ≤ (a j &&& 65535)
    · rw [if_pos q] at hp
      refine br_t q ?_
      by_cases q' : (a j &&& 65535) ≤ (b j &&& 65535)
      · rw [if_pos q'] at hp
        exact br_t q' (nm_e (ih (by omega) post hp))
      · rw [if_neg q'] at hp
        exact br_f q' hp
    · rw [if_neg q] at hp
      exact br_f q hp
theorem lc_cy {d a b : Nat → Int32} (ha : ∀ j, j < 4 → d j = a j) (hb : ∀ j, j < 4 → d (4 + j) = b j) : ∀ j, j ≤ 4 → ∀ post : Int32 → Prop, post (lc_cm a b j) → wY_cmp_2 post d (j + 1) (nI j + (-1)) := by
  intro j
  induction j with
  | zero => exact fun _ post hp => br_t (by decide) hp
  | succ j ih =>
    intro h4 post hp
    have e4 : 4 + nI j = nI (4 + j) := nI_add 4 j
    have hi : vp_in (nI j) 8 := vp_in_nI (by omega) (by omega)
    have hi4 : vp_in (4 + nI j) 8 := by rw [e4]; exact vp_in_nI (by omega) (by omega)
    have eA : (d (nI j).toNatClampNeg &&& 65535) = (a j &&& 65535) := by rw [nI_clamp (by omega), ha j (by omega)]
    have eB : (d (4 + nI j).toNatClampNeg &&& 65535) = (b j &&& 65535) := by rw [e4, nI_clamp (by omega), hb j (by omega)]
    rw [pk_m1]
    refine br_f (nI_pos (by omega)) (And.intro hi (nm_r eA (And.intro hi4 (nm_r eB ?_))))
    rw [lc_cm] at hp
    by_cases q : (b j &&& 65535) ≤ (a j &&& 65535)
    · rw [if_pos q] at hp
      refine br_t q ?_
      by_cases q' : (a j &&& 65535) ≤ (b j &&& 65535)
      · rw [if_pos q'] at hp
        exact br_t q' (nm_e (ih (by omega) post hp))
      · rw [if_neg q'] at hp
        exact br_f q' hp
    · rw [if_neg q] at hp
      exact br_f q hp
end
section
/-- the reference's eight digits are the component's two times four; la and lb are the used lengths; every digit is a short -/
def i_Rel (_ : Nat) (u : SX) (v : SY) : Prop := ∃ (n m : Nat) (a b : Nat → Int32), u = (nI n, nI m, a, b) ∧ lc_L a n ∧ lc_L b m ∧ lc_sh a ∧ lc_sh b ∧ (∀ j, j < 4 → v j = a j) ∧ (∀ j, j < 4 → v (4 + j) = b j)
theorem i_up {k : Nat} {u : SX} {v : SY} (h : i_Rel k u v) : i_Rel (k + 4) u v := h
theorem i_vc0 : wpX_init (fun u => wpY_init (fun v => i_Rel 0 u v)) :=
  ⟨0, 0, fun _ => 0, fun _ => 0, rfl, lc_L0, lc_L0, lc_sh0, lc_sh0, fun _ _ => rfl, fun _ _ => rfl⟩
theorem i_vc_put {k : Nat} {u : SX} {v : SY} (I : i_Rel k u v) (hk : k + 4 ≤ 2048) (v1 : Int32) (v2 : Int32) (v3 : Int32) : wpX_put (fun r u' => wpY_put (fun r' v' => r' = r ∧ i_Rel (k + 4) u' v') v v1 v2 v3) u v1 v2 v3 := by
  have IR := I
  obtain ⟨n, m, a, b, rfl, La, Lb, sa, sb, ha, hb⟩ := I
  have h10 : ¬ (1 : Int32) = 0 := by decide
  have p0 : ¬ (0 : Int32) < 0 := by decide
  have p1 : ¬ (1 : Int32) < 0 := by decide
  have q0 : (0 : Int32) ≤ 1 := by decide
  have q1 : (1 : Int32) ≤ 1 := by decide
  by_cases z0 : v1 = 0
  · subst z0
    refine br_t rfl ?_
    by_cases n2 : v2 < 0
    · exact br_t n2 (br_f p0 (br_t q0 (br_t n2 ⟨rfl, IR⟩)))
    · by_cases t2 : v2 ≤ 3
      · obtain ⟨j, hj, rfl⟩ := nI_of2 (M := 3) (n := 3) (by decide) n2 t2
        obtain ⟨n', L', H⟩ := lc_p0 (b := b) (fb := nI m) v3 La (j := j) (by omega)
        have hd : ∀ i, i < 4 → upd v (0 * 4 + j) v3.toInt16.toInt32 (0 * 4 + i) = upd a j v3.toInt16.toInt32 i := by
          intro i hi
          rw [show 0 * 4 + j = j by omega, show 0 * 4 + i = i by omega]
          by_cases e : i = j
          · subst e; rw [pk_us, pk_us]
          · rw [pk_un e, pk_un e]; exact ha i hi
        refine H _ (lc_yp (w := 0) v3 (by omega) (by omega) _ (lc_yl (by omega) hd L' _ ⟨rfl, n', m, _, b, rfl, L', Lb, lc_shU sa j v3, sb, fun i hi => ?_, fun i hi => ?_⟩))
        · have e := hd i hi
          rw [show 0 * 4 + i = i by omega] at e
          exact e
        · rw [pk_un (by omega)]; exact hb i hi
      · exact br_f n2 (br_f t2 (br_f p0 (br_t q0 (br_f n2 (br_f t2 ⟨rfl, IR⟩)))))
  · by_cases z1 : v1 = 1
    · subst z1
      refine br_f h10 (br_t rfl ?_)
      by_cases n2 : v2 < 0
      · exact br_t n2 (br_f p1 (br_t q1 (br_t n2 ⟨rfl, IR⟩)))
      · by_cases t2 : v2 ≤ 3
        · obtain ⟨j, hj, rfl⟩ := nI_of2 (M := 3) (n := 3) (by decide) n2 t2
          obtain ⟨n', L', H⟩ := lc_p1 (a := a) (fa := nI n) v3 Lb (j := j) (by omega)
          have hd : ∀ i, i < 4 → upd v (1 * 4 + j) v3.toInt16.toInt32 (1 * 4 + i) = upd b j v3.toInt16.toInt32 i := by
            intro i hi
            by_cases e : i = j
            · subst e; rw [pk_us, pk_us]
            · rw [pk_un e, pk_un (by omega)]; exact hb i hi
          refine H _ (lc_yp (w := 1) v3 (by omega) (by omega) _ (lc_yl (by omega) hd L' _ ⟨rfl, n, n', a, _, rfl, La, L', sa, lc_shU sb j v3, fun i hi => ?_, fun i hi => hd i hi⟩))
          rw [pk_un (by omega)]; exact ha i hi
        · exact br_f n2 (br_f t2 (br_f p1 (br_t q1 (br_f n2 (br_f t2 ⟨rfl, IR⟩)))))
    · refine br_f z0 (br_f z1 ?_)
      by_cases n1 : v1 < 0
      · exact br_t n1 ⟨rfl, IR⟩
      · exact br_f n1 (br_f (fun t1 => (lc_01 n1 t1).elim z0 z1) ⟨rfl, IR⟩)
theorem i_vc_cmp {k : Nat} {u : SX} {v : SY} (I : i_Rel k u v) (hk : k + 4 ≤ 2048) : wpX_cmp (fun r => wpY_cmp (fun r' => r' = r ∧ i_Rel (k + 4) u v) v) u := by
  have IR := I
  obtain ⟨n, m, a, b, rfl, La, Lb, sa, sb, ha, hb⟩ := I
  have h4 := La.1
  have h4' := Lb.1
  have Y : ∀ r : Int32, r = lc_cm a b 4 → wpY_cmp (fun r' => r' = r ∧ i_Rel (k + 4) (nI n, nI m, a, b) v) v := fun r hr => ⟨5, lc_cy ha hb 4 (by omega) _ ⟨hr.symm, IR⟩⟩
  rcases Nat.lt_or_ge n m with c | c
  · exact br_f (nI_ge c (by omega)) (Y _ (lc_cm_lt La Lb sb c).symm)
  · rcases Nat.lt_or_ge m n with c' | c'
    · exact br_t (nI_le c (by omega)) (br_f (nI_ge c' (by omega)) (Y _ (lc_cm_gt La Lb sa c').symm))
    · exact br_t (nI_le c (by omega)) (br_t (nI_le c' (by omega)) (nm_r (Int32.sub_eq_add_neg _ _) ⟨n + 1, lc_cx n h4 _ (Y _ (lc_cm_le La Lb (by omega)).symm)⟩))
theorem i_vc_len {k : Nat} {u : SX} {v : SY} (I : i_Rel k u v) (hk : k + 4 ≤ 2048) (v1 : Int32) : wpX_len (fun r => wpY_len (fun r' => r' = r ∧ i_Rel (k + 4) u v) v v1) u v1 := by
  have IR := I
  obtain ⟨n, m, a, b, rfl, La, Lb, sa, sb, ha, hb⟩ := I
  by_cases z0 : v1 = 0
  · subst z0
    exact br_t rfl (lc_yl (w := 0) (by omega) (fun j hj => by rw [show 0 * 4 + j = j by omega]; exact ha j hj) La _ ⟨rfl, IR⟩)
  · by_cases z1 : v1 = 1
    · subst z1
      exact br_f z0 (br_t rfl (lc_yl (w := 1) (by omega) (fun j hj => hb j hj) Lb _ ⟨rfl, IR⟩))
    · refine br_f z0 (br_f z1 ?_)
      by_cases n1 : v1 < 0
      · exact br_t n1 ⟨rfl, IR⟩
      · exact br_f n1 (br_f (fun t1 => (lc_01 n1 t1).elim z0 z1) ⟨rfl, IR⟩)
end
