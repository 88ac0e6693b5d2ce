section
theorem pk_uLs {f : Nat → Int64} {k : Nat} {x : Int64} : vp_updL f k x k = x := if_pos rfl
theorem pk_uLn {f : Nat → Int64} {k j : Nat} {x : Int64} (h : j ≠ k) : vp_updL f k x j = f j := if_neg h
theorem pk_tn {n : Nat} (h : n < 2 ^ 32) : (nI n).toBitVec.toNat = n := Nat.mod_eq_of_lt h
theorem pk_ushr (x s : Int32) (k : Nat) (hs : ((s.toUInt32 &&& Int32.toUInt32 31).toBitVec % 32).toNat = k) : (x.toUInt32 >>> (s.toUInt32 &&& Int32.toUInt32 31)).toInt32.toBitVec.toNat = x.toBitVec.toNat / 2 ^ k := by
  have e : (x.toUInt32 >>> (s.toUInt32 &&& Int32.toUInt32 31)).toInt32.toBitVec = x.toBitVec >>> k := by
    rw [← hs]
    exact UInt32.toBitVec_shiftRight _ _
  rw [e, BitVec.toNat_ushiftRight, Nat.shiftRight_eq_div_pow]
theorem pk_ushrN {n : Nat} (hn : n < 2 ^ 32) (s : Int32) (k : Nat) (hs : ((s.toUInt32 &&& Int32.toUInt32 31).toBitVec % 32).toNat = k) : ((nI n).toUInt32 >>> (s.toUInt32 &&& Int32.toUInt32 31)).toInt32 = nI (n / 2 ^ k) := by
  apply Int32.toBitVec_inj.mp
  apply BitVec.eq_of_toNat_eq
  rw [pk_ushr _ s k hs, pk_tn hn, pk_tn (Nat.lt_of_le_of_lt (Nat.div_le_self _ _) hn)]
/-- the pivot: below p the instants are at most t, from p on above it -/
theorem zt_piv (t : Int64) (a : Nat → Int64) : ∀ c : Nat, (∀ i j : Nat, i < j → j < c → a i < a j) → ∃ p : Nat, p ≤ c ∧ (∀ i : Nat, i < p → ¬ t < a i) ∧ (∀ i : Nat, p ≤ i → i < c → t < a i) := by
  intro c
  induction c with
  | zero => exact fun _ => ⟨0, Nat.le_refl 0, fun i h => absurd h (Nat.not_lt_zero i), fun i _ h => absurd h (Nat.not_lt_zero i)⟩
  | succ c ih =>
    intro hs
    by_cases h : t < a c
    · obtain ⟨p, hp, h1, h2⟩ := ih (fun i j hi hj => hs i j hi (by omega))
      refine ⟨p, by omega, h1, fun i hi hc => ?_⟩
      by_cases e : i = c
      · rw [e]; exact h
      · exact h2 i hi (by omega)
    · refine ⟨c + 1, by omega, fun i hi => ?_, fun i hi hc => absurd hc (by omega)⟩
      by_cases e : i = c
      · rw [e]; exact h
      · exact fun z => h (Int64.lt_trans z (hs i c (by omega) (by omega)))
/-- the answer at the pivot p -/
def zt_r (o : Nat → Int32) : Nat → Int32
  | 0 => 0
  | p + 1 => o p
/-- the binary search between lo and hi, the pivot between them -/
theorem zt_x {t : Int64} {a : Nat → Int64} {o : Nat → Int32} {c p : Nat} (hc : c ≤ 6) (h1 : ∀ i : Nat, i < p → ¬ t < a i) (h2 : ∀ i : Nat, p ≤ i → i < c → t < a i) (post : Int32 → Prop) (hp : post (zt_r o p)) :
    ∀ n lo hi : Nat, lo ≤ p → p ≤ hi → hi ≤ c → hi - lo < n → wX_offsetAt_8 post t (nI c) a o n (nI lo) (nI hi) := by
  intro n
  induction n with
  | zero => intro lo hi _ _ _ h; exact absurd h (by omega)
  | succ n ih =>
    intro lo hi l1 l2 l3 l4
    by_cases hl : hi ≤ lo
    · have e : lo = p := by omega
      subst e
      refine br_t (nI_le hl (by omega)) ?_
      cases lo with
      | zero => exact br_t nI_0 hp
      | succ q =>
        refine br_f (nI_ne0 (by omega) (by omega)) ?_
        rw [nI_pred, nI_clamp (by omega)]
        exact ⟨vp_in_nI (by omega) (by omega), hp⟩
    · refine br_f (nI_ge (by omega) (by omega)) (nm_r (e' := nI ((lo + hi) / 2)) ?_ ⟨vp_in_nI (by omega) (by omega), ?_⟩)
      · rw [nI_add]
        exact pk_ushrN (by omega) 1 1 (by decide)
      · rw [nI_clamp (by omega)]
        by_cases hm : t < a ((lo + hi) / 2)
        · have hq : p ≤ (lo + hi) / 2 := by
            by_cases z : (lo + hi) / 2 < p
            · exact absurd hm (h1 _ z)
            · omega
          exact br_t hm (ih lo ((lo + hi) / 2) l1 hq (by omega) (by omega))
        · have hq : (lo + hi) / 2 < p := by
            by_cases z : (lo + hi) / 2 < p
            · exact z
            · exact absurd (h2 _ (by omega) (by omega)) hm
          exact br_f hm (nm_r (nI_1 ((lo + hi) / 2)) (ih ((lo + hi) / 2 + 1) hi hq l2 l3 (by omega)))
/-- the reference's scan from k on: q of the pivot's p entries are behind it -/
theorem zt_y {t : Int64} {a : Nat → Int64} {o : Nat → Int32} {c p : Nat} (hc : c ≤ 6) (hpc : p ≤ c) (h1 : ∀ i : Nat, i < p → ¬ t < a i) (h2 : ∀ i : Nat, p ≤ i → i < c → t < a i) (post : Int32 → Prop) (hp : post (zt_r o p)) :
    ∀ n k q : Nat, k ≤ c → (q = k ∧ k ≤ p ∨ q = p ∧ p ≤ k) → c - k < n → wY_offsetAt_5 post t (nI c) a o n (zt_r o q) (nI k) := by
  intro n
  induction n with
  | zero => intro k q _ _ h; exact absurd h (by omega)
  | succ n ih =>
    intro k q hk hq hn
    by_cases h : c ≤ k
    · have e : q = p := by omega
      subst e
      exact br_t (nI_le h (by omega)) hp
    · refine br_f (nI_ge (by omega) (by omega)) ⟨vp_in_nI (by omega) (by omega), ?_⟩
      rw [nI_clamp (by omega)]
      by_cases hm : t < a k
      · have z : p ≤ k := by
          by_cases z : k < p
          · exact absurd hm (h1 _ z)
          · omega
        exact br_t hm (nm_r (nI_1 k) (ih (k + 1) q (by omega) (by omega) (by omega)))
      · have z : k < p := by
          by_cases z : k < p
          · exact z
          · exact absurd (h2 _ (by omega) (by omega)) hm
        exact br_f hm ⟨vp_in_nI (by omega) (by omega), nm_r (e' := zt_r o (k + 1)) rfl (nm_r (nI_1 k) (ih (k + 1) (k + 1) (by omega) (by omega) (by omega)))⟩
end
section
/-- a sound table: c entries, at most six, their instants ascending -/
def zt_ok (u : SX) : Prop := ∃ (c : Nat) (a : Nat → Int64) (o : Nat → Int32), c ≤ 6 ∧ (∀ i j : Nat, i < j → j < c → a i < a j) ∧ u = (nI c, a, o)
/-- the two tables are the same, and sound -/
def i_Rel (_ : Nat) (u : SX) (v : SY) : Prop := u = v ∧ zt_ok u
theorem i_up {k : Nat} {u : SX} {v : SY} (h : i_Rel k u v) : i_Rel (k + 4) u v := h
theorem i_vc0 : wpX_init (fun u => wpY_init (fun v => i_Rel 0 u v)) := ⟨rfl, 0, fun _ => 0, fun _ => 0, by omega, fun i j _ h => absurd h (Nat.not_lt_zero j), by rw [nI_0]⟩
/-- the last tests of addRule and its stores: one answer and one table for both -/
theorem zt_36 {t : Int64} {m : Int32} {c : Nat} {a : Nat → Int64} {o : Nat → Int32} (hc : c < 6) (hs : ∀ i j : Nat, i < j → j < c → a i < a j) (hl : ∀ i : Nat, i < c → a i < t) :
    ∃ (r : Int32) (s : SX), zt_ok s ∧ (∀ post : Int32 → SX → Prop, post r s → wX_addRule_36 post t m (nI c) a o) ∧ (∀ post : Int32 → SY → Prop, post r s → wY_addRule_36 post t m (nI c) a o) := by
  have hi : vp_in (nI c) 6 := vp_in_nI hc (by omega)
  have he : (nI c).toNatClampNeg = c := nI_clamp (by omega)
  by_cases m1 : m < -1440
  · exact ⟨3, (nI c, a, o), ⟨c, a, o, by omega, hs, rfl⟩, fun _ hp => br_t m1 hp, fun _ hp => br_t m1 hp⟩
  · by_cases m2 : m ≤ 1440
    · refine ⟨0, (nI (c + 1), vp_updL a c t, upd o c (vp_nar .short m.toInt16.toInt32)), ⟨c + 1, _, _, by omega, fun i j hij hj => ?_, rfl⟩, fun post hp => br_f m1 (br_t m2 ⟨hi, nm_r (e' := vp_updL a c t) (by rw [he]) ⟨hi, nm_r (e' := upd o c (vp_nar .short m.toInt16.toInt32)) (by rw [he]) (nm_r (nI_1 c) hp)⟩⟩), fun post hp => br_f m1 (br_t m2 ⟨hi, nm_r (e' := vp_updL a c t) (by rw [he]) (nm_r (nI_1 c) ⟨hi, nm_r (e' := upd o c (vp_nar .short m.toInt16.toInt32)) (by rw [he]) hp⟩)⟩)⟩
      by_cases e : j = c
      · subst e
        rw [pk_uLs, pk_uLn (by omega)]
        exact hl i hij
      · rw [pk_uLn e, pk_uLn (by omega)]
        exact hs i j hij (by omega)
    · exact ⟨3, (nI c, a, o), ⟨c, a, o, by omega, hs, rfl⟩, fun _ hp => br_f m1 (br_f m2 hp), fun _ hp => br_f m1 (br_f m2 hp)⟩
theorem zt_add {t : Int64} {m : Int32} {u : SX} (h : zt_ok u) :
    ∃ (r : Int32) (s : SX), zt_ok s ∧ (∀ post : Int32 → SX → Prop, post r s → wpX_addRule post u t m) ∧ (∀ post : Int32 → SY → Prop, post r s → wpY_addRule post u t m) := by
  obtain ⟨c, a, o, hc, hs, rfl⟩ := h
  by_cases h6 : c < 6
  · have z6 : nI c < 6 := nI_lt (b := 6) h6 (by omega)
    by_cases h0 : c = 0
    · subst h0
      have z0 : nI 0 ≤ 0 := nI_le (b := 0) (by omega) (by omega)
      obtain ⟨r, s, hk, hX, hY⟩ := zt_36 (t := t) (m := m) (o := o) h6 hs (fun i hi => absurd hi (Nat.not_lt_zero i))
      exact ⟨r, s, hk, fun post hp => br_t z6 (br_t z0 (hX post hp)), fun post hp => br_t z6 (br_t z0 (hY post hp))⟩
    · obtain ⟨d, rfl⟩ : ∃ d, c = d + 1 := ⟨c - 1, by omega⟩
      have z0 : ¬ nI (d + 1) ≤ 0 := nI_nle (by omega) (by omega)
      have ep : nI (d + 1) - 1 = nI d := nI_pred d
      have hi : vp_in (nI (d + 1) - 1) 6 := by rw [ep]; exact vp_in_nI (by omega) (by omega)
      have he : (nI (d + 1) - 1).toNatClampNeg = d := by rw [ep]; exact nI_clamp (by omega)
      by_cases hl : a d < t
      · have hl' : a (nI (d + 1) - 1).toNatClampNeg < t := by rw [he]; exact hl
        obtain ⟨r, s, hk, hX, hY⟩ := zt_36 (t := t) (m := m) (o := o) h6 hs (fun i hi => by
          by_cases e : i = d
          · rw [e]; exact hl
          · exact Int64.lt_trans (hs i d (by omega) (by omega)) hl)
        exact ⟨r, s, hk, fun post hp => br_t z6 (br_f z0 ⟨hi, br_t hl' (hX post hp)⟩), fun post hp => br_t z6 (br_f z0 ⟨hi, br_t hl' (hY post hp)⟩)⟩
      · have hl' : ¬ a (nI (d + 1) - 1).toNatClampNeg < t := by rw [he]; exact hl
        exact ⟨2, (nI (d + 1), a, o), ⟨d + 1, a, o, hc, hs, rfl⟩, fun post hp => br_t z6 (br_f z0 ⟨hi, br_f hl' hp⟩), fun post hp => br_t z6 (br_f z0 ⟨hi, br_f hl' hp⟩)⟩
  · have z6 : ¬ nI c < 6 := nI_nlt (b := 6) (by omega) (by omega)
    exact ⟨1, (nI c, a, o), ⟨c, a, o, hc, hs, rfl⟩, fun post hp => br_f z6 hp, fun post hp => br_f z6 hp⟩
/-- one answer of offsetAt for both -/
theorem zt_off {t : Int64} {u : SX} (h : zt_ok u) :
    ∃ r : Int32, (∀ post : Int32 → Prop, post r → wpX_offsetAt post u t) ∧ (∀ post : Int32 → Prop, post r → wpY_offsetAt post u t) := by
  obtain ⟨c, a, o, hc, hs, rfl⟩ := h
  obtain ⟨p, hp, h1, h2⟩ := zt_piv t a c hs
  refine ⟨zt_r o p, fun post hr => ⟨7, ?_⟩, fun post hr => ⟨7, ?_⟩⟩
  · have H := zt_x hc h1 h2 post hr 7 0 c (by omega) hp (by omega) (by omega)
    rw [nI_0] at H
    exact H
  · have H := zt_y hc hp h1 h2 post hr 7 0 0 (by omega) (by omega) (by omega)
    rw [nI_0] at H
    exact H
theorem i_vc_addRule {k : Nat} {u : SX} {v : SY} (I : i_Rel k u v) (hk : k + 4 ≤ 2048) (a0 : Int64) (v3 : Int32) : wpX_addRule (fun r u' => wpY_addRule (fun r' v' => r' = r ∧ i_Rel (k + 4) u' v') v a0 v3) u a0 v3 := by
  obtain ⟨e, h⟩ := I
  cases e
  obtain ⟨r, s, hs, hX, hY⟩ := zt_add (t := a0) (m := v3) h
  exact hX _ (hY _ ⟨rfl, rfl, hs⟩)
theorem i_vc_offsetAt {k : Nat} {u : SX} {v : SY} (I : i_Rel k u v) (hk : k + 4 ≤ 2048) (a0 : Int64) : wpX_offsetAt (fun r => wpY_offsetAt (fun r' => r' = r ∧ i_Rel (k + 4) u v) v a0) u a0 := by
  obtain ⟨e, h⟩ := I
  cases e
  obtain ⟨r, hX, hY⟩ := zt_off (t := a0) h
  exact hX _ (hY _ ⟨rfl, rfl, h⟩)
theorem i_vc_toLocal {k : Nat} {u : SX} {v : SY} (I : i_Rel k u v) (hk : k + 4 ≤ 2048) (a0 : Int64) : wpX_toLocal (fun r => wpY_toLocal (fun r' => r' = r ∧ i_Rel (k + 4) u v) v a0) u a0 := by
  obtain ⟨e, h⟩ := I
  cases e
  obtain ⟨r, hX, hY⟩ := zt_off (t := a0) h
  obtain ⟨f, a, o⟩ := u
  unfold wpX_toLocal wpY_toLocal
  dsimp only
  refine hX _ (hY _ ⟨?_, rfl, h⟩)
  rw [Int64.mul_comm]
theorem i_vc_size {k : Nat} {u : SX} {v : SY} (I : i_Rel k u v) (hk : k + 4 ≤ 2048) : wpX_size (fun r => wpY_size (fun r' => r' = r ∧ i_Rel (k + 4) u v) v) u := by
  obtain ⟨e, h⟩ := I
  cases e
  obtain ⟨f, a, o⟩ := u
  exact ⟨rfl, rfl, h⟩
end
