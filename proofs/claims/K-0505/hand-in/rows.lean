section
/-- the sixteen cells ascend -/
def sh_Srt (a : Nat → Int32) : Prop := ∀ i j : Nat, i ≤ j → j < 16 → (a i).toInt ≤ (a j).toInt
/-- the first r cells lie below t, the others don't -/
def sh_Cut (a : Nat → Int32) (t : Int) (r : Nat) : Prop := r ≤ 16 ∧ (∀ j : Nat, j < r → (a j).toInt < t) ∧ (∀ j : Nat, r ≤ j → j < 16 → t ≤ (a j).toInt)
theorem sh_ex {a : Nat → Int32} (hs : sh_Srt a) (t : Int) : ∃ r : Nat, sh_Cut a t r := by
  have H : ∀ n : Nat, n ≤ 16 → ∃ r : Nat, r ≤ n ∧ (∀ j : Nat, j < r → (a j).toInt < t) ∧ (∀ j : Nat, r ≤ j → j < n → t ≤ (a j).toInt) := by
    intro n
    induction n with
    | zero => exact fun _ => ⟨0, Nat.le_refl 0, fun j hj => absurd hj (Nat.not_lt_zero j), fun j _ hj => absurd hj (Nat.not_lt_zero j)⟩
    | succ n ih =>
      intro hn
      obtain ⟨r, hr, hlo, hhi⟩ := ih (by omega)
      by_cases hc : (a n).toInt < t
      · refine ⟨n + 1, Nat.le_refl _, fun j hj => ?_, fun j h1 h2 => absurd h2 (by omega)⟩
        have h := hs j n (by omega) (by omega)
        omega
      · refine ⟨r, by omega, hlo, fun j h1 h2 => ?_⟩
        by_cases e : j = n
        · rw [e]; omega
        · exact hhi j h1 (by omega)
  exact H 16 (Nat.le_refl 16)
theorem sh_lt {a : Nat → Int32} {t : Int} {r q : Nat} (hr : sh_Cut a t r) (hq : q < 16) : t ≤ (a q).toInt ↔ r ≤ q := by
  constructor
  · intro h
    by_cases c : r ≤ q
    · exact c
    · have := hr.2.1 q (by omega)
      omega
  · exact fun h => hr.2.2 q h hq
theorem sh_le {a : Nat → Int32} {x : Int32} {r q : Nat} (hr : sh_Cut a x.toInt r) (hq : q < 16) : x ≤ a q ↔ r ≤ q := by
  rw [Int32.le_iff_toInt_le]; exact sh_lt hr hq
theorem sh_le64 {a : Nat → Int32} {x : Int64} {r q : Nat} (hr : sh_Cut a x.toInt r) (hq : q < 16) : x ≤ (a q).toInt64 ↔ r ≤ q := by
  rw [Int64.le_iff_toInt_le, Int32.toInt_toInt64]; exact sh_lt hr hq
/-- a cell holds t if and only if the cut at t + 1 lies beyond the cut at t -/
theorem sh_two {a : Nat → Int32} {t : Int} {r s : Nat} (hr : sh_Cut a t r) (hs : sh_Cut a (t + 1) s) : r < s ↔ r < 16 ∧ (a r).toInt = t := by
  constructor
  · intro h
    have h16 : r < 16 := by have := hs.1; omega
    have h1 := hr.2.2 r (Nat.le_refl r) h16
    have h2 := hs.2.1 r h
    exact ⟨h16, by omega⟩
  · intro h
    have h1 := sh_lt hs h.1
    by_cases c : s ≤ r
    · have := h1.mpr c; omega
    · omega
theorem sh_upd {a : Nat → Int32} (hs : sh_Srt a) {j : Nat} {x : Int32} (hl : ∀ q : Nat, j = q + 1 → (a q).toInt ≤ x.toInt) (hh : j + 1 < 16 → x.toInt ≤ (a (j + 1)).toInt) : sh_Srt (upd a j x) := by
  intro p q hpq hq
  show (if p = j then x else a p).toInt ≤ (if q = j then x else a q).toInt
  by_cases hp : p = j
  · rw [if_pos hp]
    by_cases hqj : q = j
    · rw [if_pos hqj]; omega
    · rw [if_neg hqj]
      have h1 := hh (by omega)
      have h2 := hs (j + 1) q (by omega) hq
      omega
  · rw [if_neg hp]
    by_cases hqj : q = j
    · rw [if_pos hqj]
      have h1 := hl (j - 1) (by omega)
      have h2 := hs p (j - 1) (by omega) (by omega)
      omega
    · rw [if_neg hqj]
      exact hs p q hpq hq
theorem sh_shr : ∀ k : Nat, k < 4 → nI (2 ^ k) >>> ((1 : Int32) &&& 31) = nI (2 ^ k / 2) := by decide +kernel
theorem sh_and (y : Int32) : vp_in (y &&& 15) 16 := by
  have h : (y &&& 15).toBitVec.toNat < 16 := by
    rw [Int32.toBitVec_and, BitVec.toNat_and]
    exact Nat.lt_of_le_of_lt Nat.and_le_right (by decide)
  have e : (y &&& 15).toInt = (y &&& 15).toBitVec.toInt := rfl
  rw [vp_in_iff, e, BitVec.toInt_eq_toNat_of_lt (by omega)]
  omega
end
section
theorem sh_xl {a : Nat → Int32} {x : Int32} {post : Int32 → Prop} {r : Nat} (hr : sh_Cut a x.toInt r) (hp : post (nI r)) : ∀ k p : Nat, k ≤ 4 → p + 2 ^ k ≤ 16 → p ≤ r → (r < p + 2 ^ k ∨ p + 2 ^ k = 16) → wX_rank_5 post x a (k + 1) (nI p) (nI (2 ^ k / 2)) := by
  intro k
  induction k with
  | zero =>
    intro p _ h16 hpr hd
    have hr16 := hr.1
    have hi : vp_in (nI p) 16 := vp_in_nI (by omega) (by omega)
    have hc : (nI p).toNatClampNeg = p := nI_clamp (by omega)
    have h0 : nI (2 ^ 0 / 2) ≤ 0 := by decide +kernel
    have hq := sh_le hr (q := p) (by omega)
    refine br_t h0 ⟨hi, br_c (fun h => ?_) (fun h y ey => ?_)⟩
    · rw [hc] at h
      have h1 := hq.mp h
      have e : r = p := by omega
      rw [← e]; exact hp
    · rw [hc] at h
      have h1 : ¬ r ≤ p := fun z => h (hq.mpr z)
      have e : p + 1 = r := by omega
      rw [ey, nI_1, e]; exact hp
  | succ k ih =>
    intro p hk h16 hpr hd
    have e2 : (2 : Nat) ^ (k + 1) = 2 ^ k + 2 ^ k := by rw [Nat.pow_succ]; omega
    have hpos : 0 < 2 ^ k := Nat.pow_pos (by decide)
    have ed : 2 ^ (k + 1) / 2 = 2 ^ k := by omega
    have hsh := sh_shr k (by omega)
    rw [ed]
    rw [e2] at h16 hd
    have hr16 := hr.1
    obtain ⟨q, hq⟩ : ∃ q : Nat, p + 2 ^ k = q + 1 := ⟨p + 2 ^ k - 1, by omega⟩
    have hx : nI p + nI (2 ^ k) - 1 = nI q := by rw [nI_add, hq, nI_pred]
    have hi : vp_in (nI p + nI (2 ^ k) - 1) 16 := by rw [hx]; exact vp_in_nI (by omega) (by omega)
    have hc : (nI p + nI (2 ^ k) - 1).toNatClampNeg = q := by rw [hx]; exact nI_clamp (by omega)
    have h0 : ¬ nI (2 ^ k) ≤ 0 := nI_nle (by omega) (by omega)
    have hl := sh_le hr (q := q) (by omega)
    refine br_f h0 ⟨hi, br_c (fun h y ey => ?_) (fun h y ey z ez => ?_)⟩
    · rw [hc] at h
      have h1 := hl.mp h
      rw [ey, hsh]
      exact ih p (by omega) (by omega) hpr (by omega)
    · rw [hc] at h
      have h1 : ¬ r ≤ q := fun z => h (hl.mpr z)
      rw [ey, ez, nI_add, hsh]
      exact ih (p + 2 ^ k) (by omega) (by omega) (by omega) (by omega)
theorem sh_rX {a : Nat → Int32} {x : Int32} {post : Int32 → Prop} {r : Nat} (hr : sh_Cut a x.toInt r) (hp : post (nI r)) : wpX_rank post a x :=
  ⟨5, sh_xl hr hp 4 0 (by omega) (by omega) (by omega) (by omega)⟩
theorem sh_yl {a : Nat → Int32} {x : Int64} {post : Int32 → Prop} {r : Nat} (hr : sh_Cut a x.toInt r) (hp : post (nI r)) : ∀ d i c : Nat, i + d = 16 → (c = i ∧ i ≤ r ∨ c = r ∧ r ≤ i) → wY_below_5 post x a (d + 1) (nI c) (nI i) := by
  intro d
  induction d with
  | zero =>
    intro i c hi hc
    have hr16 := hr.1
    have h : (16 : Int32) ≤ nI i := nI_le (a := 16) (by omega) (by omega)
    have e : c = r := by omega
    refine br_t h ?_
    rw [e]; exact hp
  | succ d ih =>
    intro i c hi hc
    have h : ¬ (16 : Int32) ≤ nI i := nI_ge (b := 16) (by omega) (by omega)
    have hv : vp_in (nI i) 16 := vp_in_nI (by omega) (by omega)
    have hn : (nI i).toNatClampNeg = i := nI_clamp (by omega)
    have hl := sh_le64 hr (q := i) (by omega)
    refine br_f h ⟨hv, br_c (fun z y ey => ?_) (fun z y ey w ew => ?_)⟩
    · rw [hn] at z
      have h1 := hl.mp z
      rw [ey, nI_1]
      exact ih (i + 1) c (by omega) (by omega)
    · rw [hn] at z
      have h1 : ¬ r ≤ i := fun t => z (hl.mpr t)
      rw [ey, ew, nI_1, nI_1]
      exact ih (i + 1) (c + 1) (by omega) (by omega)
theorem sh_bY {a : Nat → Int32} {x : Int64} {post : Int32 → Prop} {r : Nat} (hr : sh_Cut a x.toInt r) (hp : post (nI r)) : wpY_below post a x :=
  ⟨17, sh_yl hr hp 16 0 0 (by omega) (by omega)⟩
theorem sh_rY {a : Nat → Int32} {x : Int32} {post : Int32 → Prop} {r : Nat} (hr : sh_Cut a x.toInt r) (hp : post (nI r)) : wpY_rank post a x := by
  unfold wpY_rank
  refine sh_bY (r := r) ?_ hp
  rw [Int32.toInt_toInt64]; exact hr
theorem sh_p1 (x : Int32) : (x.toInt64 + 1).toInt = x.toInt + 1 := by
  have h1 := x.le_toInt
  have h2 := x.toInt_lt
  have e1 : (1 : Int64).toInt = 1 := by decide
  rw [Jvm.Kit.i64_add, Int32.toInt_toInt64, e1]
  · rw [Int32.toInt_toInt64, e1]; omega
  · rw [Int32.toInt_toInt64, e1]; omega
theorem sh_hY {a : Nat → Int32} {x : Int32} {post : Int32 → Prop} {r s : Nat} (hr : sh_Cut a x.toInt r) (hs : sh_Cut a (x.toInt + 1) s) (h0 : ¬ r < s → post 0) (h1 : r < s → post 1) : wpY_has post a x := by
  have hr16 := hr.1
  have hs16 := hs.1
  unfold wpY_has
  refine sh_bY (r := s) (by rw [sh_p1]; exact hs) ?_
  refine sh_bY (r := r) (by rw [Int32.toInt_toInt64]; exact hr) ?_
  have hi : nI s ≤ nI r ↔ s ≤ r := nI_leI (by omega) (by omega)
  refine br_c (fun h => h0 ?_) (fun h => h1 ?_)
  · have := hi.mp h; omega
  · have h2 : ¬ s ≤ r := fun z => h (hi.mpr z)
    omega
theorem sh_69 {a : Nat → Int32} {j : Nat} {x : Int32} {post : Int32 → SX → Prop} (hj : j < 16) (h1 : -32768 ≤ x.toInt) (h2 : x.toInt < 32768) (hp : post 0 (upd a j x)) : wX_put_69 post (nI j) x a := by
  refine And.intro (vp_in_nI hj (by omega)) (fun y ey => ?_)
  have hc : (nI j).toNatClampNeg = j := nI_clamp (by omega)
  rw [hc, vp_nar_short, lg_i2s_small h1 h2, lg_i2s_small h1 h2] at ey
  rw [ey]; exact hp
theorem sh_48 {a : Nat → Int32} {j : Nat} {x : Int32} (hs : sh_Srt a) (hj : j < 16) (h1 : -32768 ≤ x.toInt) (h2 : x.toInt < 32768) (hl : ∀ q : Nat, j = q + 1 → (a q).toInt ≤ x.toInt) : ∃ r : Int32, ∃ b : Nat → Int32, sh_Srt b ∧ ∀ post : Int32 → SX → Prop, post r b → wX_put_48 post (nI j) x a := by
  by_cases c : j = 15
  · have h : (15 : Int32) ≤ nI j := nI_le (a := 15) (by omega) (by omega)
    exact ⟨0, upd a j x, sh_upd hs hl (fun z => absurd z (by omega)), fun post hp => br_t h (sh_69 hj h1 h2 hp)⟩
  · have h : ¬ (15 : Int32) ≤ nI j := nI_ge (b := 15) (by omega) (by omega)
    have hv : vp_in (nI j + 1) 16 := by rw [nI_1]; exact vp_in_nI (by omega) (by omega)
    have hn : (nI j + 1).toNatClampNeg = j + 1 := by rw [nI_1]; exact nI_clamp (by omega)
    by_cases z : x ≤ a (nI j + 1).toNatClampNeg
    · have hz := z
      rw [hn, Int32.le_iff_toInt_le] at hz
      exact ⟨0, upd a j x, sh_upd hs hl (fun _ => hz), fun post hp => br_f h ⟨hv, br_t z (sh_69 hj h1 h2 hp)⟩⟩
    · exact ⟨-4, a, hs, fun post hp => br_f h ⟨hv, br_f z hp⟩⟩
theorem sh_put {a : Nat → Int32} (hs : sh_Srt a) (i x : Int32) : ∃ r : Int32, ∃ b : Nat → Int32, sh_Srt b ∧ ∀ post : Int32 → SX → Prop, post r b → wpX_put post a i x := by
  by_cases h0 : i < 0
  · exact ⟨-1, a, hs, fun post hp => br_t h0 hp⟩
  by_cases h15 : i ≤ 15
  rotate_left
  · exact ⟨-1, a, hs, fun post hp => br_f h0 (br_f h15 hp)⟩
  by_cases hl : x < (-32768)
  · exact ⟨-2, a, hs, fun post hp => br_f h0 (br_t h15 (br_t hl hp))⟩
  by_cases hh : x ≤ 32767
  rotate_left
  · exact ⟨-2, a, hs, fun post hp => br_f h0 (br_t h15 (br_f hl (br_f hh hp)))⟩
  obtain ⟨j, hj, rfl⟩ := nI_of2 (n := 15) (by decide) h0 h15
  have e1 : (-32768 : Int32).toInt = -32768 := by decide
  have e2 : (32767 : Int32).toInt = 32767 := by decide
  have r1 : -32768 ≤ x.toInt := by rw [Int32.lt_iff_toInt_lt, e1] at hl; omega
  have r2 : x.toInt < 32768 := by rw [Int32.le_iff_toInt_le, e2] at hh; omega
  by_cases hz : nI j ≤ 0
  · have ez : j = 0 := by
      have := (nI_leI (a := j) (b := 0) (by omega) (by omega)).mp hz
      omega
    obtain ⟨r, b, hb, hK⟩ := sh_48 (x := x) hs (j := j) (by omega) r1 r2 (fun q e => absurd e (by omega))
    exact ⟨r, b, hb, fun post hp => br_f h0 (br_t h15 (br_f hl (br_t hh (br_t hz (hK post hp)))))⟩
  · have ez : j ≠ 0 := by
      intro e
      exact hz (by rw [e]; exact Int32.le_refl 0)
    obtain ⟨q, rfl⟩ : ∃ q : Nat, j = q + 1 := ⟨j - 1, by omega⟩
    have hv : vp_in (nI (q + 1) - 1) 16 := by rw [nI_pred]; exact vp_in_nI (by omega) (by omega)
    have hn : (nI (q + 1) - 1).toNatClampNeg = q := by rw [nI_pred]; exact nI_clamp (by omega)
    by_cases z : a (nI (q + 1) - 1).toNatClampNeg ≤ x
    · have hq := z
      rw [hn, Int32.le_iff_toInt_le] at hq
      obtain ⟨r, b, hb, hK⟩ := sh_48 (x := x) hs (j := q + 1) (by omega) r1 r2 (fun p e => by
        have e' : p = q := by omega
        rw [e']; exact hq)
      exact ⟨r, b, hb, fun post hp => br_f h0 (br_t h15 (br_f hl (br_t hh (br_f hz ⟨hv, br_t z (hK post hp)⟩))))⟩
    · exact ⟨-3, a, hs, fun post hp => br_f h0 (br_t h15 (br_f hl (br_t hh (br_f hz ⟨hv, br_f z hp⟩))))⟩
/-- the reference's put is the component's, word for word -/
theorem sh_XY (post : Int32 → SX → Prop) (a : Nat → Int32) (i x : Int32) : wpY_put post a i x = wpX_put post a i x := rfl
end
section
/-- the same cells on both sides, and they ascend -/
def i_Rel (_ : Nat) (u : SX) (v : SY) : Prop := u = v ∧ sh_Srt u
theorem i_up {k : Nat} {u : SX} {v : SY} (h : i_Rel k u v) : i_Rel (k + 3) u v := h
theorem i_vc0 : wpX_init (fun u => wpY_init (fun v => i_Rel 0 u v)) := And.intro rfl (fun _ _ _ _ => Int.le_refl _)
theorem i_vc_put {k : Nat} {u : SX} {v : SY} (I : i_Rel k u v) (hk : k + 3 ≤ 1536) (v1 : Int32) (v2 : Int32) : wpX_put (fun r u' => wpY_put (fun r' v' => r' = r ∧ i_Rel (k + 3) u' v') v v1 v2) u v1 v2 := by
  obtain ⟨rfl, hs⟩ := I
  obtain ⟨r, b, hb, hK⟩ := sh_put hs v1 v2
  refine hK _ ?_
  rw [sh_XY]
  exact hK _ ⟨rfl, rfl, hb⟩
theorem i_vc_rank {k : Nat} {u : SX} {v : SY} (I : i_Rel k u v) (hk : k + 3 ≤ 1536) (v1 : Int32) : wpX_rank (fun r => wpY_rank (fun r' => r' = r ∧ i_Rel (k + 3) u v) v v1) u v1 := by
  have I' := i_up I
  obtain ⟨rfl, hs⟩ := I
  obtain ⟨r, hr⟩ := sh_ex hs v1.toInt
  exact sh_rX hr (sh_rY hr ⟨rfl, I'⟩)
theorem i_vc_has {k : Nat} {u : SX} {v : SY} (I : i_Rel k u v) (hk : k + 3 ≤ 1536) (v1 : Int32) : wpX_has (fun r => wpY_has (fun r' => r' = r ∧ i_Rel (k + 3) u v) v v1) u v1 := by
  have I' := i_up I
  obtain ⟨rfl, hs⟩ := I
  obtain ⟨r, hr⟩ := sh_ex hs v1.toInt
  obtain ⟨s, ht⟩ := sh_ex hs (v1.toInt + 1)
  have h2 := sh_two hr ht
  have hr16 := hr.1
  unfold wpX_has
  refine sh_rX hr ?_
  have hc : (nI r).toNatClampNeg = r := nI_clamp (by omega)
  have hi : nI r ≤ 15 ↔ r ≤ 15 := nI_leI (b := 15) (by omega) (by omega)
  refine br_c (fun h => ⟨?_, br_c (fun z => ?_) (fun z => ?_)⟩) (fun h => ?_)
  · have := hi.mp h
    exact vp_in_nI (by omega) (by omega)
  · rw [hc] at z
    have h15 := hi.mp h
    have hlt : r < s := h2.mpr ⟨by omega, congrArg Int32.toInt z⟩
    exact sh_hY hr ht (fun n => absurd hlt n) (fun _ => ⟨rfl, I'⟩)
  · rw [hc] at z
    have hn : ¬ r < s := fun n => z (Int32.toInt_inj.mp (h2.mp n).2)
    exact sh_hY hr ht (fun _ => ⟨rfl, I'⟩) (fun n => absurd n hn)
  · have hn : ¬ r < s := fun n => h (hi.mpr (by have := (h2.mp n).1; omega))
    exact sh_hY hr ht (fun _ => ⟨rfl, I'⟩) (fun n => absurd n hn)
theorem i_vc_get {k : Nat} {u : SX} {v : SY} (I : i_Rel k u v) (hk : k + 3 ≤ 1536) (v1 : Int32) : wpX_get (fun r => wpY_get (fun r' => r' = r ∧ i_Rel (k + 3) u v) v v1) u v1 := by
  have I' := i_up I
  obtain ⟨rfl, hs⟩ := I
  exact ⟨sh_and v1, sh_and v1, rfl, I'⟩
end
