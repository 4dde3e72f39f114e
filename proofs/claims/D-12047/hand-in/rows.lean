section
/-! ===== the pure picture: the mixer, the parts' places, the root of a range, the answers of root and hand ===== -/
/-- the mixer, as the source has it -/
def ml_mix (v k : Int32) : Int32 :=
  let x := ((v ^^^ ((v.toUInt32 >>> ((15 : Int32).toUInt32 &&& Int32.toUInt32 31)).toInt32)) * 739982445) + k
  let y := ((x ^^^ ((x.toUInt32 >>> ((12 : Int32).toUInt32 &&& Int32.toUInt32 31)).toInt32)) * 695872825) + k
  y ^^^ ((y.toUInt32 >>> ((15 : Int32).toUInt32 &&& Int32.toUInt32 31)).toInt32)
/-- two roots pressed into one -/
def ml_nd (p q : Int32) : Int32 := ml_mix (ml_mix p 2 ^^^ q) 3
/-- where the roots of a level begin -/
def ml_f : Nat → Nat
  | 0 => 0
  | 1 => 40
  | 2 => 60
  | 3 => 70
  | 4 => 75
  | _ => 77
/-- the root of a range of d entries: c levels still to go from level l on, r so far, e the end of what is not yet taken, s: something was taken -/
def ml_rr (a : Nat → Int32) (d : Nat) : Nat → Nat → Int32 → Nat → Int32 → Int32
  | 0, _, r, _, _ => r
  | c + 1, l, r, e, s =>
    if d / 2 ^ l % 2 = 0 then ml_rr a d c (l + 1) r e s
    else ml_rr a d c (l + 1) (if s = 0 then a (ml_f l + (e - 2 ^ l) / 2 ^ l) else ml_nd (a (ml_f l + (e - 2 ^ l) / 2 ^ l)) r) (e - 2 ^ l) 1
/-- what root answers -/
def ml_rv (a : Nat → Int32) (n : Nat) (x : Int32) : Int32 :=
  if x < 1 then 0 else if x ≤ nI n then ml_rr a x.toNatClampNeg 6 0 0 x.toNatClampNeg 0 else 0
/-- what hand answers -/
def ml_hv (a : Nat → Int32) (h : Nat) (x : Int32) : Int32 :=
  if x < 0 then 0 else if x < nI h then a x.toNatClampNeg else 0
/-- two fillings of the parts agree on every full part that ends at entry n or ahead of it -/
def ml_ag (n : Nat) (a b : Nat → Int32) : Prop := ∀ l i, l < 6 → (i + 1) * 2 ^ l ≤ n → a (ml_f l + i) = b (ml_f l + i)
/-! ===== bits, by looking at all of them ===== -/
theorem ml_shl : ∀ l, l < 6 → (1 : Int32) <<< (nI l &&& 31) = nI (2 ^ l) := by decide +kernel
theorem ml_bit : ∀ d, d < 41 → ∀ l, l < 6 → (nI d &&& nI (2 ^ l) = 0 ↔ d / 2 ^ l % 2 = 0) := by decide +kernel
theorem ml_shr : ∀ n, n < 41 → ∀ l, l < 6 → nI n >>> (nI l &&& 31) = nI (n / 2 ^ l) := by decide +kernel
theorem ml_odd : ∀ n, n < 41 → (nI n &&& 1 = 0 ↔ n % 2 = 0) := by decide +kernel
theorem ml_half : ∀ n, n < 41 → nI n >>> ((1 : Int32) &&& 31) = nI (n / 2) := by decide +kernel
theorem ml_mod0 : ∀ d, d < 41 → ∀ l, l < 6 → d / 2 ^ l % 2 = 0 → d % 2 ^ (l + 1) = d % 2 ^ l := by decide +kernel
theorem ml_mod1 : ∀ d, d < 41 → ∀ l, l < 6 → ¬ d / 2 ^ l % 2 = 0 → d % 2 ^ (l + 1) = d % 2 ^ l + 2 ^ l := by decide +kernel
theorem ml_fb : ∀ l, l < 6 → ∀ i, i < 41 → i * 2 ^ l ≤ 40 → ml_f l + i < 80 := by decide +kernel
theorem ml_pw : ∀ l, l < 7 → 1 ≤ 2 ^ l ∧ 2 ^ l ≤ 64 := by decide +kernel
/-- the place read at level l, when the bit is set -/
theorem ml_at {hi d e l : Nat} (hd : d ≤ hi) (hh : hi ≤ 40) (hl : l < 6) (he : e + d % 2 ^ l = hi) (hb : ¬ d / 2 ^ l % 2 = 0) :
    2 ^ l ≤ e ∧ e ≤ hi ∧ ((e - 2 ^ l) / 2 ^ l + 1) * 2 ^ l ≤ e ∧ ml_f l + (e - 2 ^ l) / 2 ^ l < 80 ∧ (e - 2 ^ l) + d % 2 ^ (l + 1) = hi := by
  have h1 := ml_mod1 d (by omega) l hl hb
  have h2 : d % 2 ^ (l + 1) ≤ d := Nat.mod_le _ _
  have h3 : 2 ^ l ≤ e := by omega
  have h4 := ml_pw l (by omega)
  have h5 : (e - 2 ^ l) / 2 ^ l * 2 ^ l ≤ e - 2 ^ l := Nat.div_mul_le_self _ _
  have h6 : (e - 2 ^ l) / 2 ^ l ≤ e - 2 ^ l := Nat.div_le_self _ _
  refine ⟨h3, by omega, ?_, ml_fb l hl _ (by omega) (by omega), by omega⟩
  rw [Nat.succ_mul]
  omega
theorem ml_rr_ag {n : Nat} {a b : Nat → Int32} (h : ml_ag n a b) {hi d : Nat} (hd : d ≤ hi) (hn : hi ≤ n) (hh : hi ≤ 40) :
    ∀ c l r e s, l + c = 6 → e + d % 2 ^ l = hi → ml_rr a d c l r e s = ml_rr b d c l r e s
  | 0, _, _, _, _, _, _ => rfl
  | c + 1, l, r, e, s, hc, he => by
    unfold ml_rr
    by_cases z : d / 2 ^ l % 2 = 0
    · rw [if_pos z, if_pos z]
      exact ml_rr_ag h hd hn hh c (l + 1) r e s (by omega) (by rw [ml_mod0 d (by omega) l (by omega) z]; exact he)
    · rw [if_neg z, if_neg z]
      have k := ml_at hd hh (by omega) he z
      rw [h l ((e - 2 ^ l) / 2 ^ l) (by omega) (by omega)]
      exact ml_rr_ag h hd hn hh c (l + 1) _ (e - 2 ^ l) 1 (by omega) k.2.2.2.2
/-! ===== small ints ===== -/
theorem ml_nn {x : Int32} (h : ¬ x < 1) : ¬ x < 0 := by
  intro z
  rw [Int32.lt_iff_toInt_lt] at h z
  have e0 : (0 : Int32).toInt = 0 := by decide
  have e1 : (1 : Int32).toInt = 1 := by decide
  omega
/-- an int between 1 and n is one of the naturals there -/
theorem ml_of {x : Int32} {n : Nat} (hn : n ≤ 40) (h1 : ¬ x < 1) (h2 : x ≤ nI n) : ∃ s : Nat, 1 ≤ s ∧ s ≤ n ∧ x = nI s := by
  obtain ⟨j, hj, e⟩ := nI_of2 (nI_toInt (n := n) (by omega)) (ml_nn h1) h2
  refine ⟨j, ?_, hj, e⟩
  rcases Nat.eq_zero_or_pos j with z | z
  · subst z
    subst e
    exact absurd (show nI 0 < 1 by decide) h1
  · exact z
theorem ml_le {x y : Int32} (h : ¬ x < y) : y ≤ x := Int32.not_lt.mp h
theorem ml_lt {x y : Int32} (h : ¬ x ≤ y) : y < x := Int32.not_le.mp h
theorem ml_nlt {x y : Int32} (h : y ≤ x) : ¬ x < y := Int32.not_lt.mpr h
theorem ml_nle {x y : Int32} (h : y < x) : ¬ x ≤ y := Int32.not_le.mpr h
/-! ===== what root and hand answer where the law asks ===== -/
theorem ml_rv_0 {a : Nat → Int32} {n : Nat} : ml_rv a n 0 = 0 := if_pos (by decide)
theorem ml_rv_n {a : Nat → Int32} {n : Nat} (hn : n ≤ 40) : ml_rv a n (nI n + 1) = 0 := by
  unfold ml_rv
  rw [nI_1, if_neg (show ¬ nI (n + 1) < 1 from nI_nlt (b := 1) (by omega) (by omega)), if_neg (nI_ge (by omega) (by omega))]
theorem ml_hv_h {a : Nat → Int32} {h : Nat} (hh : h ≤ 16) : ml_hv a h (nI h) = 0 := by
  unfold ml_hv
  rw [if_neg (nI_pos (by omega)), if_neg (nI_nlt (by omega) (by omega))]
theorem ml_hv_m {a : Nat → Int32} {h : Nat} : ml_hv a h (-1) = 0 := if_pos (by decide)
theorem ml_hv_out {a : Nat → Int32} {h : Nat} {x : Int32} (c : x < 0 ∨ nI h ≤ x) : ml_hv a h x = 0 := by
  unfold ml_hv
  by_cases z : x < 0
  · rw [if_pos z]
  · rw [if_neg z, if_neg (ml_nlt (c.resolve_left z))]
theorem ml_hv_in {a : Nat → Int32} {h : Nat} {x v : Int32} (c : ¬ x < 0) (c2 : ¬ nI h ≤ x) : ml_hv (upd a x.toNatClampNeg v) h x = v := by
  unfold ml_hv
  rw [if_neg c, if_pos (ml_lt c2), pk_us]
theorem ml_hv_top {a : Nat → Int32} {h : Nat} {v : Int32} (hh : h < 16) : ml_hv (upd a h v) (h + 1) (nI h) = v := by
  unfold ml_hv
  rw [if_neg (nI_pos (by omega)), if_pos (nI_lt (by omega) (by omega)), nI_clamp (by omega), pk_us]
/-- an entry that is added changes no root of what stood before -/
theorem ml_rv_app {a b : Nat → Int32} {n : Nat} {x : Int32} (hn : n < 40) (h : ml_ag n a b) (hx : ¬ nI (n + 1) - 1 < x) : ml_rv a n x = ml_rv b (n + 1) x := by
  rw [nI_pred] at hx
  have h2 := ml_le hx
  unfold ml_rv
  by_cases z : x < 1
  · rw [if_pos z, if_pos z]
  · obtain ⟨s, h1, hs, e⟩ := ml_of (by omega) z h2
    subst e
    rw [if_neg z, if_neg z, if_pos h2, if_pos (nI_le (by omega) (by omega)), nI_clamp (by omega)]
    exact ml_rr_ag h (Nat.le_refl s) hs (by omega) 6 0 0 s 0 rfl (by omega)
/-! ===== the places that append writes ===== -/
theorem ml_6 {l : Nat} (h : l < 6) : l = 0 ∨ l = 1 ∨ l = 2 ∨ l = 3 ∨ l = 4 ∨ l = 5 := by omega
theorem ml_sep {l i l' i' m : Nat} (hl : l < 6) (hl' : l' < 6) (hm : m ≤ 40) (h : (i + 1) * 2 ^ l = m) (h' : (i' + 1) * 2 ^ l' < m) : ml_f l' + i' ≠ ml_f l + i := by
  rcases ml_6 hl with z | z | z | z | z | z <;> subst z <;> rcases ml_6 hl' with z | z | z | z | z | z <;> subst z <;>
    simp only [ml_f, Nat.reducePow] at * <;> omega
theorem ml_ag_upd {n l i : Nat} {a b : Nat → Int32} (h : ml_ag n a b) (hn : n < 40) (hl : l < 6) (hi : (i + 1) * 2 ^ l = n + 1) (v : Int32) : ml_ag n a (upd b (ml_f l + i) v) := by
  intro l' i' hl' hi'
  rw [pk_un (ml_sep hl hl' (m := n + 1) (by omega) hi (by omega))]
  exact h l' i' hl' hi'
theorem ml_ag_0 {n : Nat} {a : Nat → Int32} : ml_ag n a a := fun _ _ _ _ => rfl
theorem ml_ix (A i k : Nat) (h : k ≤ A + 2 * i) : nI A + 2 * nI i - nI k = nI (A + 2 * i - k) := by
  have e : (2 : Int32) * nI i = nI (2 * i) := pk_mul 2 i
  rw [e, nI_add, pk_sub h]
/-- the places of one turn of append's loop: index idx at level l, idx even -/
theorem ml_turn {l idx m : Nat} (hl : l < 5) (hm : 0 < m) (hm2 : m ≤ 40) (h : idx * 2 ^ l = m) (he : idx % 2 = 0) :
    1 ≤ idx / 2 ∧ idx ≤ 40 ∧ (idx / 2 - 1 + 1) * 2 ^ (l + 1) = m ∧ idx / 2 * 2 ^ (l + 1) = m ∧ ml_f l + 2 * (idx / 2) - 2 < 80 ∧ ml_f l + 2 * (idx / 2) - 1 < 80 ∧ ml_f (l + 1) + (idx / 2 - 1) < 80 := by
  have h1 : idx ≤ 40 := by
    have := ml_pw l (by omega)
    have : idx * 1 ≤ idx * 2 ^ l := Nat.mul_le_mul_left idx (by omega)
    omega
  have h0 : idx ≠ 0 := by
    intro z
    subst z
    rw [Nat.zero_mul] at h
    omega
  have h2 : idx / 2 * 2 ^ (l + 1) = m := by
    rw [Nat.pow_succ, Nat.mul_comm (2 ^ l) 2, ← Nat.mul_assoc, Nat.div_mul_cancel (Nat.dvd_of_mod_eq_zero he)]
    exact h
  have h3 : idx / 2 - 1 + 1 = idx / 2 := by omega
  have h4 := ml_fb l (by omega) idx (by omega) (by omega)
  have h5 := ml_fb (l + 1) (by omega) (idx / 2) (by omega) (by omega)
  exact ⟨by omega, h1, by rw [h3]; exact h2, h2, by omega, by omega, by omega⟩
end
section
/-! ===== one lemma a method ===== -/
theorem ml_mixW {post : Int32 → Prop} {v k : Int32} (h : post (ml_mix v k)) : wpX_mix post () v k := by
  intro x ex y ey
  subst ex
  subst ey
  exact h
theorem ml_nodeW {post : Int32 → Prop} {p q : Int32} (h : post (ml_nd p q)) : wpX_node post () p q := by
  unfold wpX_node
  exact ml_mixW (ml_mixW h)
theorem ml_leafW {post : Int32 → Prop} {p : Int32} (h : ∀ r, post r) : wpX_leaf post () p := by
  unfold wpX_leaf
  exact ml_mixW (h _)
theorem ml_firstW {post : Int32 → Prop} {x : Int32} (l : Nat) (hl : l < 6) (hx : x = nI l) (h : post (nI (ml_f l))) : wpX_first post () x := by
  subst hx
  rcases ml_6 hl with z | z | z | z | z | z <;> subst z
  · exact br_t (by decide) h
  · exact br_f (by decide) (br_t (by decide) h)
  · exact br_f (by decide) (br_f (by decide) (br_t (by decide) h))
  · exact br_f (by decide) (br_f (by decide) (br_f (by decide) (br_t (by decide) h)))
  · exact br_f (by decide) (br_f (by decide) (br_f (by decide) (br_f (by decide) (br_t (by decide) h))))
  · exact br_f (by decide) (br_f (by decide) (br_f (by decide) (br_f (by decide) (br_f (by decide) h))))
section
variable {f0 f1 f2 : Int32} {a1 a2 a3 : Nat → Int32}
/-! ===== rangeRoot, root, hand ===== -/
theorem ml_rr11 {post : Int32 → Prop} {lo hi : Nat} (h1 : lo ≤ hi) (h2 : hi ≤ 40) :
    ∀ c l r e s, l + c = 6 → e + (hi - lo) % 2 ^ l = hi → post (ml_rr a1 (hi - lo) c l r e s) → wX_rangeRoot_11 post (nI lo) (nI hi) f0 f1 f2 a1 a2 a3 (c + 1) r (nI e) s (nI l)
  | 0, l, r, e, s, hc, he, hp => br_t (nI_le (a := 6) (by omega) (by omega)) hp
  | c + 1, l, r, e, s, hc, he, hp => by
    refine br_f (nI_ge (b := 6) (by omega) (by omega)) (nm_r (ml_shl l (by omega)) (ek_if (d := (hi - lo) / 2 ^ l % 2 = 0) ?_ (fun z => ?_) (fun z => ?_)))
    · rw [pk_sub h1]
      exact ml_bit (hi - lo) (by omega) l (by omega)
    · unfold ml_rr at hp
      rw [if_pos z] at hp
      exact nm_r (nI_1 l) (ml_rr11 h1 h2 c (l + 1) r e s (by omega) (by rw [ml_mod0 (hi - lo) (by omega) l (by omega) z]; exact he) hp)
    · unfold ml_rr at hp
      rw [if_neg z] at hp
      obtain ⟨k1, k2, k3, k4, k5⟩ := ml_at (by omega) h2 (by omega) he z
      have ix : nI (ml_f l) + ((nI e - nI (2 ^ l)) >>> (nI l &&& 31)) = nI (ml_f l + (e - 2 ^ l) / 2 ^ l) := by
        rw [pk_sub k1, ml_shr _ (by omega) l (by omega), nI_add]
      refine ml_firstW l (by omega) rfl ⟨pk_in _ 80 k4 ix, nm_r (congrArg a1 (pk_cl _ ix (by omega))) (br_c (fun y => ?_) (fun y => ml_nodeW ?_))⟩
      · rw [if_pos y] at hp
        exact nm_r (pk_sub k1) (nm_r (nI_1 l) (ml_rr11 h1 h2 c (l + 1) _ (e - 2 ^ l) 1 (by omega) k5 hp))
      · rw [if_neg y] at hp
        exact nm_r (pk_sub k1) (nm_r (nI_1 l) (ml_rr11 h1 h2 c (l + 1) _ (e - 2 ^ l) 1 (by omega) k5 hp))
theorem ml_range {post : Int32 → Prop} {lo hi : Nat} (h1 : lo ≤ hi) (h2 : hi ≤ 40) (hp : post (ml_rr a1 (hi - lo) 6 0 0 hi 0)) : wpX_rangeRoot post (f0, f1, f2, a1, a2, a3) (nI lo) (nI hi) :=
  ⟨7, ml_rr11 h1 h2 6 0 0 hi 0 rfl (by omega) hp⟩
theorem ml_rootW {post : Int32 → Prop} {n : Nat} {x : Int32} (hn : n ≤ 40) (hp : post (ml_rv a1 n x)) : wpX_root post (nI n, f1, f2, a1, a2, a3) x := by
  unfold ml_rv at hp
  refine br_c (fun z => ?_) (fun z => br_c (fun y => ?_) (fun y => ?_))
  · rw [if_pos z] at hp
    exact hp
  · rw [if_neg z, if_pos y] at hp
    obtain ⟨s, k1, k2, e⟩ := ml_of hn z y
    subst e
    rw [nI_clamp (by omega)] at hp
    exact ml_range (lo := 0) (Nat.zero_le s) (by omega) hp
  · rw [if_neg z, if_neg y] at hp
    exact hp
theorem ml_handW {post : Int32 → Prop} {h : Nat} {x : Int32} (hh : h ≤ 16) (hp : post (ml_hv a2 h x)) : wpX_hand post (f0, nI h, f2, a1, a2, a3) x := by
  unfold ml_hv at hp
  refine br_c (fun z => ?_) (fun z => br_c (fun y => ?_) (fun y => ?_))
  · rw [if_pos z] at hp
    exact hp
  · rw [if_neg z, if_pos y] at hp
    obtain ⟨j, hj, e⟩ := nI_of z
    subst e
    exact ⟨pk_in j 16 (by have := (nI_ltI hj (by omega)).mp y; omega), hp⟩
  · rw [if_neg z, if_neg y] at hp
    exact hp
/-! ===== append ===== -/
theorem ml_app41 {post : Int32 → St1 → Prop} {n : Nat} {a0 : Nat → Int32} (hn : n < 40) (H : ∀ a, ml_ag n a0 a → post (nI (n + 1)) (nI (n + 1), f1, f2, a, a2, a3)) :
    ∀ c l idx a, l + c = 5 → idx * 2 ^ l = n + 1 → ml_ag n a0 a → wX_append_41 post (nI (n + 1)) f1 f2 (c + 1) (nI idx) (nI l) a a2 a3
  | 0, l, idx, a, hc, hi, ha => br_t (nI_le (a := 5) (by omega) (by omega)) (H a ha)
  | c + 1, l, idx, a, hc, hi, ha => by
    have hx : idx ≤ 40 := by
      have := ml_pw l (by omega)
      have : idx * 1 ≤ idx * 2 ^ l := Nat.mul_le_mul_left idx (by omega)
      omega
    refine br_f (nI_ge (b := 5) (by omega) (by omega)) (ek_if (ml_odd idx (by omega)) (fun z => ?_) (fun _ => H a ha))
    obtain ⟨k1, k2, k3, k4, k5, k6, k7⟩ := ml_turn (by omega) (by omega) (by omega) hi z
    have e3 : nI (ml_f (l + 1)) + nI (idx / 2) - 1 = nI (ml_f (l + 1) + (idx / 2 - 1)) := by
      rw [nI_add, show ml_f (l + 1) + idx / 2 = ml_f (l + 1) + (idx / 2 - 1) + 1 by omega, nI_pred]
    refine ⟨by decide, nm_r (pk_div (d := 2) (by omega) (by omega) (by omega)) (ml_firstW l (by omega) rfl ⟨pk_in _ 80 k5 (ml_ix _ _ 2 (by omega)), nm_e (ml_firstW l (by omega) rfl ⟨pk_in _ 80 k6 (ml_ix _ _ 1 (by omega)), nm_e (ml_firstW (l + 1) (by omega) (nI_1 l) (ml_nodeW ⟨pk_in _ 80 k7 e3, ?_⟩))⟩)⟩)⟩
    rw [pk_cl _ e3 (by omega)]
    exact nm_e (nm_r (nI_1 l) (ml_app41 hn H c (l + 1) (idx / 2) _ (by omega) k4 (ml_ag_upd ha hn (by omega) k3 _)))
theorem ml_appW {post : Int32 → St1 → Prop} {n : Nat} {x : Int32} (hn : n ≤ 40) (H0 : n = 40 → post (-1) (nI n, f1, f2, a1, a2, a3))
    (H1 : n < 40 → ∀ a, ml_ag n a1 a → post (nI (n + 1)) (nI (n + 1), f1, f2, a, a2, a3)) : wpX_append post (nI n, f1, f2, a1, a2, a3) x := by
  refine pk_lt n 40 (fun z => ml_leafW (fun r => ⟨pk_in n 80 (by omega), nm_e (nm_r (nI_1 n) ⟨6, ml_app41 (a0 := a1) z (H1 z) 5 0 (n + 1) _ rfl (by omega) ?_⟩)⟩)) (fun z => H0 (by omega))
  rw [nI_clamp (by omega)]
  have h := ml_ag_upd (l := 0) (i := n) (b := a1) ml_ag_0 z (by omega) (by omega) r
  rw [show ml_f 0 + n = n from Nat.zero_add n] at h
  exact h
/-! ===== cut, note, turnRound ===== -/
theorem ml_cut4 {post : Int32 → Prop} {d : Nat} (hd : d ≤ 40) (H : ∀ k, 1 ≤ k → k < d → post (nI k)) : ∀ c s k, s + c = 6 → 1 ≤ k → k < d → wX_cut_4 post (nI d) (c + 1) (nI k) (nI s)
  | 0, s, k, hc, h1, h2 => br_t (nI_le (a := 6) (by omega) (by omega)) (H k h1 h2)
  | c + 1, s, k, hc, h1, h2 => br_f (nI_ge (b := 6) (by omega) (by omega)) (pk_le d (2 * k) (fun _ => H k h1 h2) (fun z => nm_r (pk_mul k 2) (nm_r (nI_1 s) (ml_cut4 hd H c (s + 1) (k * 2) (by omega) (by omega) (by omega)))) rfl (pk_mul 2 k))
theorem ml_cutW {post : Int32 → Prop} {d : Nat} {x : Int32} (h2 : 2 ≤ d) (hd : d ≤ 40) (hx : x = nI d) (H : ∀ k, 1 ≤ k → k < d → post (nI k)) : wpX_cut post () x := by
  subst hx
  exact ⟨7, ml_cut4 hd H 6 0 1 rfl (by omega) (by omega)⟩
theorem ml_noteW {post : St1 → Prop} {f lo hi : Nat} (hf : f < 16) (h1 : lo ≤ hi) (h2 : hi ≤ 40) (H : ∀ a, post (f0, f1, nI (f + 1), a1, a2, a)) : wpX_note post (f0, f1, nI f, a1, a2, a3) (nI lo) (nI hi) := by
  unfold wpX_note
  dsimp only
  exact ml_range h1 h2 ⟨pk_in f 16 hf, nm_e (nm_r (nI_1 f) (H _))⟩
theorem ml_turn10 {post : St1 → Prop} {f : Nat} (hf : f ≤ 16) (H : ∀ a, post (f0, nI f, nI f, a1, a, a3)) : ∀ c k a, k + c = f → wX_turnRound_10 post f0 (nI f) (nI f) (c + 1) (nI k) a1 a a3
  | 0, k, a, hc => br_t (nI_le (by omega) (by omega)) (H a)
  | c + 1, k, a, hc => by
    have e : nI f - 1 - nI k = nI (f - 1 - k) := by
      rw [show nI f - 1 = nI (f - 1) from pk_sub (b := 1) (by omega), pk_sub (by omega)]
    exact br_f (nI_ge (by omega) (by omega)) ⟨pk_in _ 16 (by omega) e, pk_in k 16 (by omega), nm_e (nm_r (nI_1 k) (ml_turn10 hf H c (k + 1) _ (by omega)))⟩
theorem ml_turnW {post : St1 → Prop} {f : Nat} (hf : f ≤ 16) (H : ∀ a, post (f0, nI f, nI f, a1, a, a3)) : wpX_turnRound post (f0, f1, nI f, a1, a2, a3) :=
  ⟨f + 1, ml_turn10 hf H f 0 a2 (by omega)⟩
/-! ===== path ===== -/
theorem ml_path100 {post : Int32 → St1 → Prop} {f : Nat} (hf : f ≤ 16) (H : ∀ a, post (nI f) (f0, nI f, nI f, a1, a, a3)) : wX_path_100 post f0 f1 (nI f) a1 a2 a3 := by
  unfold wX_path_100
  exact ml_turnW hf H
theorem ml_path37 {post : Int32 → St1 → Prop} {x1 : Int32} {b : Nat} (hb : 1 ≤ b) (H : ∀ f a a', f ≤ 6 → (f = 0 ↔ b = 1) → post (nI f) (f0, nI f, nI f, a1, a, a')) :
    ∀ c s lo hi a, s + c = 6 → lo < hi → hi ≤ 40 → (s = 0 → lo = 0 ∧ hi = b) → (0 < s → b ≠ 1) → wX_path_37 post x1 (c + 1) (nI lo) (nI hi) (nI s) f0 f1 (nI s) a1 a2 a
  | 0, s, lo, hi, a, hc, h1, h2, h3, h4 => br_t (nI_le (a := 6) (by omega) (by omega)) (ml_path100 (by omega) (fun q => H s q a (by omega) (by omega)))
  | c + 1, s, lo, hi, a, hc, h1, h2, h3, h4 => by
    refine br_f (nI_ge (b := 6) (by omega) (by omega)) (pk_le (hi - lo) 1 (fun z => ml_path100 (by omega) (fun q => H s q a (by omega) (by omega))) (fun z => ml_cutW (d := hi - lo) (by omega) (by omega) (pk_sub (by omega)) (fun k k1 k2 => nm_r (nI_add lo k) (br_c (fun _ => ?_) (fun _ => ?_)))) (pk_sub (by omega)))
    · exact ml_noteW (by omega) (by omega) (by omega) (fun q => nm_r (nI_1 s) (ml_path37 hb H c (s + 1) (lo + k) hi q (by omega) (by omega) (by omega) (by omega) (by omega)))
    · exact ml_noteW (by omega) (by omega) (by omega) (fun q => nm_r (nI_1 s) (ml_path37 hb H c (s + 1) lo (lo + k) q (by omega) (by omega) (by omega) (by omega) (by omega)))
theorem ml_pathW {post : Int32 → St1 → Prop} {n : Nat} {x y : Int32} (hn : n ≤ 40)
    (H0 : (y < 1 ∨ nI n < y ∨ x < 0 ∨ y ≤ x) → post (-1) (nI n, f1, f2, a1, a2, a3))
    (H1 : ¬ y < 1 → ¬ nI n < y → ¬ x < 0 → ¬ y ≤ x → ∀ f a a', f ≤ 6 → (f = 0 ↔ y = 1) → post (nI f) (nI n, nI f, nI f, a1, a, a')) : wpX_path post (nI n, f1, f2, a1, a2, a3) x y := by
  refine br_c (fun z => H0 (.inl z)) (fun z1 => br_c (fun z => H0 (.inr (.inl z))) (fun z2 => br_c (fun z => H0 (.inr (.inr (.inl z)))) (fun z3 => br_c (fun z4 => ?_) (fun z => H0 (.inr (.inr (.inr (ml_le z))))))))
  obtain ⟨b, k1, k2, e⟩ := ml_of hn z1 (ml_le z2)
  have e1 : y = 1 ↔ b = 1 := by
    subst e
    exact nI_eq (b := 1) (by omega) (by omega)
  have G := H1 z1 z2 z3 (ml_nle z4)
  subst e
  exact ⟨7, ml_path37 k1 (fun f a a' g1 g2 => G f a a' g1 (g2.trans e1.symm)) 6 0 0 b a3 rfl (by omega) (by omega) (fun _ => ⟨rfl, rfl⟩) (by omega)⟩
/-! ===== steps ===== -/
theorem ml_steps105 {post : Int32 → St1 → Prop} {f : Nat} (hf : f ≤ 16) (H : ∀ a, post (nI f) (f0, nI f, nI f, a1, a, a3)) : wX_steps_105 post f0 f1 (nI f) a1 a2 a3 := by
  unfold wX_steps_105
  exact ml_turnW hf H
theorem ml_steps94 {post : Int32 → St1 → Prop} {f lo hi : Nat} (hf : f < 16) (h1 : lo ≤ hi) (h2 : hi ≤ 40) (H0 : lo = 0 → ∀ a, post (nI f) (f0, nI f, nI f, a1, a, a3)) (H1 : 0 < lo → ∀ a a', post (nI (f + 1)) (f0, nI (f + 1), nI (f + 1), a1, a, a')) : wX_steps_94 post (nI lo) (nI hi) f0 f1 (nI f) a1 a2 a3 := by
  unfold wX_steps_94
  exact pk_le lo 0 (fun z => ml_steps105 (by omega) (H0 (by omega))) (fun z => ml_noteW hf h1 h2 (fun q => ml_steps105 (by omega) (fun a => H1 z a q)))
theorem ml_steps33 {post : Int32 → St1 → Prop} {fr b : Nat} (hb : fr ≤ b) (hb2 : b ≤ 40) (H : ∀ f a a', f ≤ 7 → (f = 0 ↔ fr = b) → post (nI f) (f0, nI f, nI f, a1, a, a')) :
    ∀ c s lo hi a, s + c = 6 → lo < fr → fr ≤ hi → hi ≤ 40 → (s = 0 → lo = 0 ∧ hi = b) → (0 < s → fr ≠ b) → wX_steps_33 post (nI fr) (c + 1) (nI lo) (nI hi) (nI s) f0 f1 (nI s) a1 a2 a
  | 0, s, lo, hi, a, hc, h1, h2, h3, h4, h5 => br_t (nI_le (a := 6) (by omega) (by omega)) (ml_steps94 (by omega) (by omega) (by omega) (fun z q => H s q a (by omega) (by omega)) (fun z q q' => H (s + 1) q q' (by omega) (by omega)))
  | c + 1, s, lo, hi, a, hc, h1, h2, h3, h4, h5 => by
    refine br_f (nI_ge (b := 6) (by omega) (by omega)) (pk_eq hi fr (fun z => ?_) (fun z => ml_cutW (d := hi - lo) (by omega) (by omega) (pk_sub (by omega)) (fun k k1 k2 => nm_r (nI_add lo k) (pk_lt (lo + k) fr (fun y => ?_) (fun y => ?_)))))
    · refine ml_steps94 (by omega) (by omega) (by omega) (fun y q => H s q a (by omega) ?_) (fun y q q' => H (s + 1) q q' (by omega) ?_)
      · omega
      · omega
    · exact ml_noteW (by omega) (by omega) (by omega) (fun q => nm_r (nI_1 s) (ml_steps33 hb hb2 H c (s + 1) (lo + k) hi q (by omega) (by omega) (by omega) (by omega) (by omega) (by omega)))
    · exact ml_noteW (by omega) (by omega) (by omega) (fun q => nm_r (nI_1 s) (ml_steps33 hb hb2 H c (s + 1) lo (lo + k) q (by omega) (by omega) (by omega) (by omega) (by omega) (by omega)))
theorem ml_stepsW {post : Int32 → St1 → Prop} {n : Nat} {x y : Int32} (hn : n ≤ 40)
    (H0 : (x < 1 ∨ y < x ∨ nI n < y) → post (-1) (nI n, f1, f2, a1, a2, a3))
    (H1 : ¬ x < 1 → ¬ y < x → ¬ nI n < y → ∀ f a a', f ≤ 7 → (f = 0 ↔ x = y) → post (nI f) (nI n, nI f, nI f, a1, a, a')) : wpX_steps post (nI n, f1, f2, a1, a2, a3) x y := by
  refine br_c (fun z => H0 (.inl z)) (fun z1 => br_c (fun z => H0 (.inr (.inl z))) (fun z2 => br_c (fun z3 => ?_) (fun z => H0 (.inr (.inr (ml_lt z))))))
  have G := H1 z1 z2 (ml_nlt z3)
  have z4 : ¬ y < 1 := fun z => z1 (Int32.lt_of_le_of_lt (ml_le z2) z)
  obtain ⟨b, k1, k2, e⟩ := ml_of hn z4 z3
  subst e
  obtain ⟨a, l1, l2, e'⟩ := ml_of (by omega) z1 (ml_le z2)
  subst e'
  have e1 : nI a = nI b ↔ a = b := nI_eq (by omega) (by omega)
  exact ⟨7, ml_steps33 l2 (by omega) (fun f q q' g1 g2 => G f q q' g1 (g2.trans e1.symm)) 6 0 0 b a3 rfl (by omega) (by omega) (by omega) (fun _ => ⟨rfl, rfl⟩) (by omega)⟩
/-! ===== alter, take ===== -/
theorem ml_alterW {post : Int32 → St1 → Prop} {h : Nat} {x v : Int32} (hh : h ≤ 16) (H0 : (x < 0 ∨ nI h ≤ x) → post (-1) (f0, nI h, f2, a1, a2, a3))
    (H1 : ¬ x < 0 → ¬ nI h ≤ x → post 0 (f0, nI h, f2, a1, upd a2 x.toNatClampNeg v, a3)) : wpX_alter post (f0, nI h, f2, a1, a2, a3) x v := by
  refine br_c (fun z => H0 (.inl z)) (fun z => br_c (fun y => ⟨?_, nm_e (H1 z (ml_nle y))⟩) (fun y => H0 (.inr (ml_le y))))
  obtain ⟨j, hj, e⟩ := nI_of z
  subst e
  exact pk_in j 16 (by have := (nI_ltI hj (by omega)).mp y; omega)
theorem ml_takeW {post : Int32 → St1 → Prop} {h : Nat} {v : Int32} (hh : h ≤ 16) (H0 : h = 16 → post (-1) (f0, nI h, f2, a1, a2, a3))
    (H1 : h < 16 → post (nI (h + 1)) (f0, nI (h + 1), f2, a1, upd a2 h v, a3)) : wpX_take post (f0, nI h, f2, a1, a2, a3) v :=
  pk_lt h 16 (fun z => ⟨pk_in h 16 z, nm_r (by rw [nI_clamp (by omega)]) (nm_r (nI_1 h) (H1 z))⟩) (fun z => H0 (by omega))
/-! ===== rootFrom ===== -/
section
variable {post : Int32 → Prop} {J : Int32 → Int32 → Int32 → Int32 → Prop}
theorem ml_rf135 {x4 x6 : Int32} {t k : Nat} (ht : t ≤ 40) (H : ∀ x, J x (nI (t / 2)) x6 (nI (k + 1))) : wX_rootFrom_135 post J x4 (nI t) x6 (nI k) f0 f1 f2 a1 a2 a3 := by
  unfold wX_rootFrom_135
  exact nm_e (nm_r (ml_half t (by omega)) (nm_r (nI_1 k) (H _)))
theorem ml_rf86 {x6 : Int32} {T k : Nat} (hT : T ≤ 40) (H : ∀ x t, t ≤ T / 2 → J x (nI t) x6 (nI (k + 1))) : ∀ c s x4 t, s + c = 6 → t ≤ T → wX_rootFrom_86 post J x6 (nI k) f0 f1 f2 a1 a2 a3 (c + 1) x4 (nI t) (nI s)
  | 0, s, x4, t, hc, ht => br_t (nI_le (a := 6) (by omega) (by omega)) (ml_rf135 (by omega) (fun x => H x _ (by omega)))
  | c + 1, s, x4, t, hc, ht => br_f (nI_ge (b := 6) (by omega) (by omega)) (br_c (fun _ => nm_e (nm_r (ml_half t (by omega)) (nm_r (nI_1 s) (ml_rf86 hT H c (s + 1) _ (t / 2) (by omega) (by omega))))) (fun _ => ml_rf135 (by omega) (fun x => H x _ (by omega))))
theorem ml_rf69 {x4 x6 : Int32} {t k : Nat} (ht : t ≤ 40) (hk : k < 16) (H : ∀ x y t', t' ≤ t / 2 → J x (nI t') y (nI (k + 1))) : wX_rootFrom_69 post J x4 (nI t) x6 (nI k) f0 f1 f2 a1 a2 a3 := by
  unfold wX_rootFrom_69
  exact ⟨pk_in k 16 hk, ml_nodeW ⟨7, ml_rf86 ht (fun x t' h => H x _ t' h) 6 0 x4 t rfl (Nat.le_refl t)⟩⟩
end
theorem ml_rf39 {post : Int32 → Prop} {h : Nat} (hh : h ≤ 16) (H0 : post 0) (H1 : h ≤ 6 → ∀ r, post r) : ∀ c k x4 t x6, k + c = h → k ≤ 6 → t * 2 ^ k < 64 → t ≤ 40 → wX_rootFrom_39 post f0 (nI h) f2 a1 a2 a3 (c + 1) x4 (nI t) x6 (nI k)
  | 0, k, x4, t, x6, hc, hk, ht, ht2 => br_t (nI_le (by omega) (by omega)) (br_c (fun _ => H1 (by omega) x6) (fun _ => H0))
  | c + 1, k, x4, t, x6, hc, hk, ht, ht2 => by
    refine br_f (nI_ge (by omega) (by omega)) (pk_eq t 0 (fun _ => H0) (fun z => ?_))
    have k5 : k ≤ 5 := by
      rcases Nat.lt_or_ge k 6 with g | g
      · omega
      · have : k = 6 := by omega
        subst this
        omega
    have N : ∀ x y t', t' ≤ t / 2 → wX_rootFrom_39 post f0 (nI h) f2 a1 a2 a3 (c + 1) x (nI t') y (nI (k + 1)) := by
      intro x y t' g
      refine ml_rf39 hh H0 H1 c (k + 1) x t' y (by omega) (by omega) ?_ (by omega)
      have q1 : t' * 2 * 2 ^ k ≤ t * 2 ^ k := Nat.mul_le_mul_right _ (by omega)
      have q2 : t' * 2 ^ (k + 1) = t' * 2 * 2 ^ k := by rw [Nat.pow_succ, Nat.mul_assoc, Nat.mul_comm (2 ^ k) 2]
      omega
    exact br_c (fun _ => br_c (fun _ => ml_rf69 ht2 (by omega) N) (fun _ => ⟨pk_in k 16 (by omega), ml_nodeW (ml_rf135 ht2 (fun x => N x _ _ (Nat.le_refl _)))⟩)) (fun _ => ml_rf69 ht2 (by omega) N)
/-- rootFrom ends; with more than six numbers in the hand, or out of range, it answers 0 -/
theorem ml_rfW {post : Int32 → Prop} {h : Nat} {x y v : Int32} (hh : h ≤ 16) (H : ∀ r, ((6 < h ∨ (y < 1 ∨ 40 < y ∨ x < 0 ∨ ¬ x < y)) → r = 0) → post r) : wpX_rootFrom post (f0, nI h, f2, a1, a2, a3) x y v := by
  have H0 : post 0 := H 0 (fun _ => rfl)
  refine br_c (fun _ => H0) (fun z1 => br_c (fun _ => H0) (fun z2 => br_c (fun _ => H0) (fun z3 => br_c (fun z4 => ?_) (fun _ => H0))))
  have H1 : h ≤ 6 → ∀ r, post r := fun g r => H r (fun q => absurd q (by
    intro q
    rcases q with q | q | q | q | q
    · omega
    · exact z1 q
    · exact z2 q
    · exact z3 q
    · exact q z4))
  obtain ⟨b, k1, k2, e⟩ := ml_of (Nat.le_refl 40) z1 (ml_le z2)
  subst e
  exact nm_r (pk_sub (b := 1) k1) (ml_leafW (fun r => ⟨h + 1, ml_rf39 hh H0 H1 h 0 x (b - 1) r (by omega) (by omega) (by omega) (by omega)⟩))
end
end
section
/-! ===== the law's turn, from its end to its beginning ===== -/
/-- this turn is one that appends -/
def ml_app (x5 : Int32) : Prop := x5 ≤ 1 ∨ x5 = 7
/-- what the turn's last checks of root and hand rest on -/
def ml_Q (n h : Nat) (a1 a2 : Nat → Int32) (x5 x6 x8 x9 : Int32) : Prop :=
  (ml_app x5 → (¬ nI n - 1 < x6 → x8 = ml_rv a1 n x6) ∧ x9 = ml_hv a2 h 0) ∧ (¬ ml_app x5 → x8 = ml_rv a1 n x6)
/-- the next turn may be entered with any hand -/
def ml_H (J : Int32 → Int32 → Int32 → Int32 → Int32 → Int32 → (Nat → Int32) → (Nat → Int32) → (Nat → Int32) → Prop) (n i : Nat) (a1 : Nat → Int32) : Prop :=
  ∀ h f a2 a3, h ≤ 16 → J (nI n) (nI h) (nI (i + 3)) (nI n) (nI h) f a1 a2 a3
theorem ml_Qx {n h h' : Nat} {a1 a2 a2' : Nat → Int32} {x5 x6 x8 x9 : Int32} (q : ml_Q n h a1 a2 x5 x6 x8 x9) (c : ¬ ml_app x5) : ml_Q n h' a1 a2' x5 x6 x8 x9 :=
  ⟨fun g => absurd g c, q.2⟩
theorem ml_app2 : ¬ ml_app 2 := by unfold ml_app; decide
theorem ml_app3 : ¬ ml_app 3 := by unfold ml_app; decide
theorem ml_app4 : ¬ ml_app 4 := by unfold ml_app; decide
theorem ml_app5 : ¬ ml_app 5 := by unfold ml_app; decide
theorem ml_app6 : ¬ ml_app 6 := by unfold ml_app; decide
section
variable {L : Nat} {xs : Nat → Int32} {J : Int32 → Int32 → Int32 → Int32 → Int32 → Int32 → (Nat → Int32) → (Nat → Int32) → (Nat → Int32) → Prop} {x5 x6 x7 x8 x9 f : Int32} {n h i kc ks : Nat} {a1 a2 a3 : Nat → Int32}
theorem ml_623 (hh : h ≤ 16) (hb : x7 < 1 ∨ 40 < x7 ∨ x6 < 0 ∨ ¬ x6 < x7) (HJ : ml_H J n i a1) : wL_law_623 (fun r => r = 1) L xs J (nI n) (nI h) (nI i) x5 x6 x7 kc ks (nI n) (nI h) f a1 a2 a3 := by
  unfold wL_law_623
  exact ml_rfW hh (fun r hr => br_t (hr (.inr hb)) (nm_r (nI_add i 3) (HJ h f a2 a3 hh)))
theorem ml_598 (hh : h ≤ 16) (HJ : ml_H J n i a1) : wL_law_598 (fun r => r = 1) L xs J (nI n) (nI h) (nI i) x5 x6 x7 kc ks (nI n) (nI h) f a1 a2 a3 := by
  unfold wL_law_598
  exact br_c (fun z => ml_623 hh (.inl z) HJ) (fun _ => br_c (fun z => ml_623 hh (.inr (.inl z)) HJ) (fun _ => br_c (fun z => ml_623 hh (.inr (.inr (.inl z))) HJ) (fun _ => br_c (fun _ => nm_r (nI_add i 3) (HJ h f a2 a3 hh)) (fun z => ml_623 hh (.inr (.inr (.inr z))) HJ))))
theorem ml_579 (hh : h ≤ 16) (HJ : ml_H J n i a1) : wL_law_579 (fun r => r = 1) L xs J (nI n) (nI h) (nI i) x5 x6 x7 kc ks (nI n) (nI h) f a1 a2 a3 := by
  unfold wL_law_579
  exact pk_le h 6 (fun _ => ml_598 hh HJ) (fun z => ml_rfW hh (fun r hr => br_t (hr (.inl z)) (ml_598 hh HJ)))
theorem ml_567 (hh : h ≤ 16) (e : x9 = ml_hv a2 h 0) (HJ : ml_H J n i a1) : wL_law_567 (fun r => r = 1) L xs J (nI n) (nI h) (nI i) x5 x6 x7 x9 kc ks (nI n) (nI h) f a1 a2 a3 := by
  unfold wL_law_567
  exact ml_handW hh (br_t e.symm (ml_579 hh HJ))
theorem ml_554 (hh : h ≤ 16) (q : ml_Q n h a1 a2 x5 x6 x8 x9) (HJ : ml_H J n i a1) : wL_law_554 (fun r => r = 1) L xs J (nI n) (nI h) (nI i) x5 x6 x7 x9 kc ks (nI n) (nI h) f a1 a2 a3 := by
  unfold wL_law_554
  exact br_c (fun z => ml_567 hh (q.1 (.inl z)).2 HJ) (fun _ => br_c (fun z => ml_567 hh (q.1 (.inr z)).2 HJ) (fun _ => ml_579 hh HJ))
theorem ml_541 (hn : n ≤ 40) (hh : h ≤ 16) (q : ml_Q n h a1 a2 x5 x6 x8 x9) (e : x8 = ml_rv a1 n x6) (HJ : ml_H J n i a1) : wL_law_541 (fun r => r = 1) L xs J (nI n) (nI h) (nI i) x5 x6 x7 x8 x9 kc ks (nI n) (nI h) f a1 a2 a3 := by
  unfold wL_law_541
  exact ml_rootW hn (br_t e.symm (ml_554 hh q HJ))
theorem ml_533 (hn : n ≤ 40) (hh : h ≤ 16) (q : ml_Q n h a1 a2 x5 x6 x8 x9) (c : ml_app x5) (HJ : ml_H J n i a1) : wL_law_533 (fun r => r = 1) L xs J (nI n) (nI h) (nI i) x5 x6 x7 x8 x9 kc ks (nI n) (nI h) f a1 a2 a3 := by
  unfold wL_law_533
  exact br_c (fun _ => ml_554 hh q HJ) (fun z => ml_541 hn hh q ((q.1 c).1 z) HJ)
theorem ml_476 (hn : n ≤ 40) (hh : h ≤ 16) (q : ml_Q n h a1 a2 x5 x6 x8 x9) (HJ : ml_H J n i a1) : wL_law_476 (fun r => r = 1) L xs J (nI n) (nI h) (nI i) x5 x6 x7 x8 x9 kc ks (nI n) (nI h) f a1 a2 a3 := by
  unfold wL_law_476
  refine br_t rfl (ml_handW hh (br_t (ml_hv_h hh) (ml_handW hh (br_t ml_hv_m (ml_rootW hn (br_t ml_rv_0 (ml_rootW hn (br_t (ml_rv_n hn) ?_))))))))
  exact br_c (fun z => ml_533 hn hh q (.inl z) HJ) (fun z => br_c (fun y => ml_533 hn hh q (.inr y) HJ) (fun y => ml_541 hn hh q (q.2 (fun c => c.elim z y)) HJ))
/-! ===== drop ===== -/
theorem ml_456 (hn : n ≤ 40) (hh : h ≤ 16) (q : ml_Q n h a1 a2 x5 x6 x8 x9) (HJ : ml_H J n i a1) : wL_law_456 (fun r => r = 1) L xs J (nI n) (nI h) (nI i) x5 x6 x7 x8 x9 kc ks (nI n) (nI h) f a1 a2 a3 := by
  unfold wL_law_456
  refine br_c (fun z => br_c (fun _ => ml_476 hn hh q HJ) (fun _ => ?_)) (fun _ => ml_476 hn hh q HJ)
  unfold wpX_drop
  exact ml_476 (h := 0) hn (by omega) (ml_Qx q (by rw [z]; exact ml_app6)) HJ
/-! ===== alter ===== -/
theorem ml_451 {z0 z1 : Int32} (hz : z1 = z0) (hn : n ≤ 40) (hh : h ≤ 16) (q : ml_Q n h a1 a2 x5 x6 x8 x9) (HJ : ml_H J n i a1) : wL_law_451 (fun r => r = 1) L xs J (nI n) (nI h) (nI i) x5 x6 x7 x8 x9 z0 z1 kc ks (nI n) (nI h) f a1 a2 a3 := by
  unfold wL_law_451
  exact br_t hz (ml_456 hn hh q HJ)
theorem ml_450 {z0 : Int32} (hz : z0 = 0) (hn : n ≤ 40) (hh : h ≤ 16) (q : ml_Q n h a1 a2 x5 x6 x8 x9) (HJ : ml_H J n i a1) : wL_law_450 (fun r => r = 1) L xs J (nI n) (nI h) (nI i) x5 x6 x7 x8 x9 z0 kc ks (nI n) (nI h) f a1 a2 a3 := by
  unfold wL_law_450
  exact ml_451 hz hn hh q HJ
theorem ml_425 {z0 z1 : Int32} (hz : z1 = z0) (w0 : (x6 < 0 ∨ nI h ≤ x6) → ml_hv a2 h x6 = 0) (w1 : ¬ x6 < 0 → ¬ nI h ≤ x6 → ml_hv a2 h x6 = x7) (hn : n ≤ 40) (hh : h ≤ 16) (q : ml_Q n h a1 a2 x5 x6 x8 x9) (HJ : ml_H J n i a1) : wL_law_425 (fun r => r = 1) L xs J (nI n) (nI h) (nI i) x5 x6 x7 x8 x9 z0 z1 kc ks (nI n) (nI h) f a1 a2 a3 := by
  unfold wL_law_425
  exact br_t hz (ml_handW hh (br_c (fun z => ml_450 (w0 (.inl z)) hn hh q HJ) (fun z => br_c (fun y => ml_450 (w0 (.inr y)) hn hh q HJ) (fun y => ml_451 (w1 z y) hn hh q HJ))))
theorem ml_395 (hn : n ≤ 40) (hh : h ≤ 16) (q : ml_Q n h a1 a2 x5 x6 x8 x9) (HJ : ml_H J n i a1) : wL_law_395 (fun r => r = 1) L xs J (nI n) (nI h) (nI i) x5 x6 x7 x8 x9 kc ks (nI n) (nI h) f a1 a2 a3 := by
  unfold wL_law_395
  refine br_c (fun z => ?_) (fun _ => ml_456 hn hh q HJ)
  have c : ¬ ml_app x5 := by rw [z]; exact ml_app5
  refine ml_alterW hh (fun g => ?_) (fun g1 g2 => ?_)
  · have R : wL_law_424 (fun r => r = 1) L xs J (nI n) (nI h) (nI i) x5 x6 x7 x8 x9 (-1) kc ks (nI n) (nI h) f a1 a2 a3 := by
      unfold wL_law_424
      exact ml_425 rfl ml_hv_out (fun y1 y2 => absurd g (fun t => t.elim y1 y2)) hn hh q HJ
    exact br_c (fun _ => R) (fun y1 => br_c (fun _ => R) (fun y2 => absurd g (fun t => t.elim y1 y2)))
  · exact br_f g1 (br_f g2 (ml_425 rfl ml_hv_out ml_hv_in hn hh (ml_Qx q c) HJ))
/-! ===== take ===== -/
theorem ml_334 (hn : n ≤ 40) (hh : h ≤ 16) (q : ml_Q n h a1 a2 x5 x6 x8 x9) (HJ : ml_H J n i a1) : wL_law_334 (fun r => r = 1) L xs J (nI n) (nI h) (nI i) x5 x6 x7 x8 x9 kc ks (nI n) (nI h) f a1 a2 a3 := by
  unfold wL_law_334
  refine br_c (fun z => ?_) (fun _ => ml_395 hn hh q HJ)
  have c : ¬ ml_app x5 := by rw [z]; exact ml_app4
  refine ml_takeW hh (fun g => ?_) (fun g => ?_)
  · have R : wL_law_380 (fun r => r = 1) L xs J (nI n) (nI h) (nI i) x5 x6 x7 x8 x9 kc ks (nI n) (nI h) f a1 a2 a3 := by
      unfold wL_law_380 wL_law_394
      subst g
      exact pk_eq 16 16 (fun _ => ml_395 (h := 16) hn hh q HJ) (fun y => absurd rfl y)
    refine pk_eq h 16 (fun _ => ?_) (fun y => absurd g y)
    unfold wL_law_359
    exact br_t rfl (pk_le 16 h (fun _ => R) (fun y => absurd y (by omega)))
  · have R : wL_law_380 (fun r => r = 1) L xs J (nI n) (nI h) (nI i) x5 x6 x7 x8 x9 kc ks (nI n) (nI (h + 1)) f a1 (upd a2 h x6) a3 := by
      unfold wL_law_380 wL_law_394
      refine pk_eq h 16 (fun y => absurd y (by omega)) (fun _ => ?_)
      rw [nI_1]
      exact ml_395 hn (by omega) (ml_Qx q c) HJ
    refine pk_eq h 16 (fun y => absurd y (by omega)) (fun _ => ?_)
    unfold wL_law_359
    exact br_t (nI_1 h).symm (pk_le 16 h (fun y => absurd y (by omega)) (fun _ => ml_handW (by omega) (br_t (ml_hv_top g) R)))
/-! ===== steps ===== -/
theorem ml_267n (hn : n ≤ 40) (hh : h ≤ 16) (q : ml_Q n h a1 a2 x5 x6 x8 x9) (HJ : ml_H J n i a1) : wL_law_266 (fun r => r = 1) L xs J (nI n) (nI h) (nI i) x5 x6 x7 x8 x9 (-1) kc ks (nI n) (nI h) f a1 a2 a3 := by
  unfold wL_law_266 wL_law_267 wL_law_322 wL_law_333
  exact br_t rfl (br_t rfl (br_t rfl (ml_334 hn hh q HJ)))
theorem ml_267y {x3 : Int32} {g : Nat} (hg : g ≤ 7) (hz : g = 0 ↔ x6 = x7) (hn : n ≤ 40) (q : ml_Q n g a1 a2 x5 x6 x8 x9) (HJ : ml_H J n i a1) : wL_law_267 (fun r => r = 1) L xs J (nI n) x3 (nI i) x5 x6 x7 x8 x9 (nI g) 1 kc ks (nI n) (nI g) f a1 a2 a3 := by
  have R : wL_law_322 (fun r => r = 1) L xs J (nI n) x3 (nI i) x5 x6 x7 x8 x9 (nI g) 1 kc ks (nI n) (nI g) f a1 a2 a3 := by
    unfold wL_law_322 wL_law_333
    exact br_f (by decide) (ml_334 hn (by omega) q HJ)
  unfold wL_law_267 wL_law_296 wL_law_308
  exact br_f (by decide) (br_f (nI_pos (by omega)) (pk_lt 7 g (fun y => absurd y (by omega)) (fun _ => pk_eq g 0 (fun y => br_t (hz.mp y) (br_t rfl R)) (fun y => br_f (fun t => y (hz.mpr t)) (br_t rfl R)))))
theorem ml_227 (hn : n ≤ 40) (hh : h ≤ 16) (q : ml_Q n h a1 a2 x5 x6 x8 x9) (HJ : ml_H J n i a1) : wL_law_227 (fun r => r = 1) L xs J (nI n) (nI h) (nI i) x5 x6 x7 x8 x9 kc ks (nI n) (nI h) f a1 a2 a3 := by
  unfold wL_law_227
  refine br_c (fun z => ?_) (fun _ => ml_334 hn hh q HJ)
  have c : ¬ ml_app x5 := by rw [z]; exact ml_app3
  refine ml_stepsW hn (fun g => ?_) (fun g1 g2 g3 m b b' hm hz => ?_)
  · have R : wL_law_266 (fun r => r = 1) L xs J (nI n) (nI h) (nI i) x5 x6 x7 x8 x9 (-1) kc ks (nI n) (nI h) f a1 a2 a3 := ml_267n hn hh q HJ
    exact br_c (fun _ => R) (fun y1 => br_c (fun _ => R) (fun y2 => br_c (fun _ => R) (fun y3 => absurd g (fun t => t.elim y1 (fun t => t.elim y2 y3)))))
  · exact br_f g1 (br_f g2 (br_f g3 (ml_267y hm hz hn (ml_Qx q c) HJ)))
/-! ===== path ===== -/
theorem ml_161n (hn : n ≤ 40) (hh : h ≤ 16) (q : ml_Q n h a1 a2 x5 x6 x8 x9) (HJ : ml_H J n i a1) : wL_law_160 (fun r => r = 1) L xs J (nI n) (nI h) (nI i) x5 x6 x7 x8 x9 (-1) kc ks (nI n) (nI h) f a1 a2 a3 := by
  unfold wL_law_160 wL_law_161 wL_law_215 wL_law_226
  exact br_t rfl (br_t rfl (br_t rfl (ml_227 hn hh q HJ)))
theorem ml_161y {x3 : Int32} {g : Nat} (hg : g ≤ 6) (hz : g = 0 ↔ x7 = 1) (hn : n ≤ 40) (q : ml_Q n g a1 a2 x5 x6 x8 x9) (HJ : ml_H J n i a1) : wL_law_161 (fun r => r = 1) L xs J (nI n) x3 (nI i) x5 x6 x7 x8 x9 (nI g) 1 kc ks (nI n) (nI g) f a1 a2 a3 := by
  have R : wL_law_215 (fun r => r = 1) L xs J (nI n) x3 (nI i) x5 x6 x7 x8 x9 (nI g) 1 kc ks (nI n) (nI g) f a1 a2 a3 := by
    unfold wL_law_215 wL_law_226
    exact br_f (by decide) (ml_227 hn (by omega) q HJ)
  unfold wL_law_161 wL_law_190 wL_law_201
  exact br_f (by decide) (br_f (nI_pos (by omega)) (pk_lt 6 g (fun y => absurd y (by omega)) (fun _ => pk_eq g 0 (fun y => br_t (hz.mp y) (br_t rfl R)) (fun y => br_f (fun t => y (hz.mpr t)) (br_t rfl R)))))
theorem ml_116 (hn : n ≤ 40) (hh : h ≤ 16) (q : ml_Q n h a1 a2 x5 x6 x8 x9) (HJ : ml_H J n i a1) : wL_law_116 (fun r => r = 1) L xs J (nI n) (nI h) (nI i) x5 x6 x7 x8 x9 kc ks (nI n) (nI h) f a1 a2 a3 := by
  unfold wL_law_116
  refine br_c (fun z => ?_) (fun _ => ml_227 hn hh q HJ)
  have c : ¬ ml_app x5 := by rw [z]; exact ml_app2
  refine ml_pathW hn (fun g => ?_) (fun g1 g2 g3 g4 m b b' hm hz => ?_)
  · have R : wL_law_160 (fun r => r = 1) L xs J (nI n) (nI h) (nI i) x5 x6 x7 x8 x9 (-1) kc ks (nI n) (nI h) f a1 a2 a3 := ml_161n hn hh q HJ
    exact br_c (fun _ => R) (fun y1 => br_c (fun _ => R) (fun y2 => br_c (fun _ => R) (fun y3 => br_c (fun _ => R) (fun y4 => absurd g (fun t => t.elim y1 (fun t => t.elim y2 (fun t => t.elim y3 y4)))))))
  · exact br_f g1 (br_f g2 (br_f g3 (br_f g4 (ml_161y hm hz hn (ml_Qx q c) HJ))))
/-! ===== append ===== -/
theorem ml_77 (c : ml_app x5) (hn : n ≤ 40) (hh : h ≤ 16) (HJ : ∀ m a, m ≤ 40 → ml_H J m i a) : wL_law_77 (fun r => r = 1) L xs J (nI n) (nI h) (nI i) x5 x6 x7 (ml_rv a1 n x6) (ml_hv a2 h 0) kc ks (nI n) (nI h) f a1 a2 a3 := by
  unfold wL_law_77
  refine ml_appW hn (fun g => ?_) (fun g b hb => ?_)
  · refine pk_eq n 40 (fun _ => ?_) (fun y => absurd g y)
    unfold wL_law_96 wL_law_115
    subst g
    exact br_t rfl (pk_eq 40 40 (fun _ => ml_116 (n := 40) hn hh ⟨fun _ => ⟨fun _ => rfl, rfl⟩, fun y => absurd c y⟩ (HJ 40 a1 hn)) (fun y => absurd rfl y))
  · refine pk_eq n 40 (fun y => absurd y (by omega)) (fun _ => ?_)
    unfold wL_law_96 wL_law_115
    refine br_t (nI_1 n).symm (pk_eq n 40 (fun y => absurd y (by omega)) (fun _ => ?_))
    rw [nI_1]
    exact ml_116 (by omega) hh ⟨fun _ => ⟨fun y => ml_rv_app g hb y, rfl⟩, fun y => absurd c y⟩ (HJ (n + 1) b (by omega))
end
/-! ===== the law's loop ===== -/
theorem ml_15 {L : Nat} {xs : Nat → Int32} {kc ks : Nat} (hL : L ≤ 260) : ∀ c n h i f a1 a2 a3, L < i + c → i ≤ L → n ≤ 40 → h ≤ 16 → wL_law_15 (fun r => r = 1) L xs kc ks c (nI n) (nI h) (nI i) (nI n) (nI h) f a1 a2 a3
  | 0, n, h, i, f, a1, a2, a3, hc, hi, hn, hh => absurd hc (by omega)
  | c + 1, n, h, i, f, a1, a2, a3, hc, hi, hn, hh => by
    refine pk_lt L (i + 3) (fun _ => rfl) (fun z => ⟨pk_in i L (by omega), nm_e ⟨pk_in (i + 1) L (by omega) (nI_1 i), nm_e ⟨pk_in (i + 2) L (by omega) (nI_add i 2), nm_e (ml_rootW hn (ml_handW hh ?_))⟩⟩⟩) rfl (nI_add i 3)
    have HJ : ∀ m a, m ≤ 40 → ml_H (wL_law_15 (fun r => r = 1) L xs kc ks c) m i a := fun m a hm h' f' b b' hh' => ml_15 hL c m h' (i + 3) f' a b b' (by omega) z hm hh'
    exact br_c (fun y => ml_77 (.inl y) hn hh HJ) (fun y => br_c (fun y2 => ml_77 (.inr y2) hn hh HJ) (fun y2 => ml_116 hn hh ⟨fun t => absurd t (fun t => t.elim y y2), fun _ => rfl⟩ (HJ n a1 hn)))
theorem i_vc (xs : Nat → Int32) (L : Nat) (hL : L ≤ 260) : wpL_law (fun r => r = 1) L xs :=
  ⟨3, 112, by decide, by decide, by decide, by decide, by decide, by decide, by decide, by decide, L + 1, ml_15 hL (L + 1) 0 0 0 0 _ _ _ (by omega) (by omega) (by omega) (by omega)⟩
end
