section
/-! rows pasted from the kit's PURE-ROWS (starting text): pk_sub, pk_mul, pk_le, pk_eq, pk_ushr, pk_vb -/
theorem pk_sub {a b : Nat} (h : b ≤ a) : nI a - nI b = nI (a - b) := by
  obtain ⟨c, rfl⟩ : ∃ c, a = c + b := ⟨a - b, by omega⟩
  rw [← nI_add, Int32.add_sub_cancel, Nat.add_sub_cancel]
theorem pk_mul (a b : Nat) : nI a * nI b = nI (a * b) := (Int32.ofNat_mul a b).symm
theorem pk_le {x y : Int32} {A B : Prop} (a b : Nat) (f : a ≤ b → A) (g : b < a → B) (hx : x = nI a := by rfl) (hy : y = nI b := by rfl) (ha : a < 2 ^ 31 := by omega) (hb : b < 2 ^ 31 := by omega) : (x ≤ y → A) ∧ (¬ x ≤ y → B) := by
  subst hx hy
  rw [nI_leI ha hb]
  exact ⟨f, fun z => g (by omega)⟩
theorem pk_eq {x y : Int32} {A B : Prop} (a b : Nat) (f : a = b → A) (g : a ≠ b → B) (hx : x = nI a := by rfl) (hy : y = nI b := by rfl) (ha : a < 2 ^ 31 := by omega) (hb : b < 2 ^ 31 := by omega) : (x = y → A) ∧ (¬ x = y → B) := by
  subst hx hy
  rw [nI_eq ha hb]
  exact ⟨f, g⟩
theorem pk_ushr (x s : Int32) (k : Nat) (hs : ((s.toUInt32 &&& Int32.toUInt32 31).toBitVec % 32).toNat = k) : (x.toUInt32 >>> (s.toUInt32 &&& Int32.toUInt32 31)).toInt32.toBitVec.toNat = x.toBitVec.toNat / 2 ^ k := by
  have e : (x.toUInt32 >>> (s.toUInt32 &&& Int32.toUInt32 31)).toInt32.toBitVec = x.toBitVec >>> k := by
    rw [← hs]
    exact UInt32.toBitVec_shiftRight _ _
  rw [e, BitVec.toNat_ushiftRight, Nat.shiftRight_eq_div_pow]
theorem pk_vb (z : Int32) : vp_nar .byte z.toInt8.toInt32 = z.toInt8.toInt32 := by rw [vp_nar_byte]; simp
/-! the byte that a head's length writes: (x >>> s) as a byte -/
def rh_b (x : Int32) (s : Nat) : Int32 := ((x.toUInt32 >>> ((nI s).toUInt32 &&& Int32.toUInt32 31)).toInt32).toInt8.toInt32
/-- X masks by 255 ahead of the cast: the cast does so anyhow -/
theorem rh_m255 (z : Int32) : (z &&& 255).toInt8.toInt32 = z.toInt8.toInt32 := by
  rw [Int32.toInt8_and, show (255 : Int32).toInt8 = -1 from by decide, Int8.and_neg_one]
/-- Y's last byte isn't shifted -/
theorem rh_b0 (x : Int32) : x.toInt8.toInt32 = rh_b x 0 := by
  have e : (x.toUInt32 >>> ((nI 0).toUInt32 &&& Int32.toUInt32 31)).toInt32 = x := by
    apply Int32.toBitVec_inj.mp
    apply BitVec.eq_of_toNat_eq
    rw [pk_ushr x (nI 0) 0 (by decide), Nat.pow_zero, Nat.div_one]
  unfold rh_b
  rw [e]
/-- m length bytes from q on, the highest first -/
def rh_tail (x : Int32) : Nat → Nat → (Nat → Int32) → (Nat → Int32)
  | 0 => fun _ a => a
  | m + 1 => fun q a => rh_tail x m (q + 1) (upd a q (rh_b x (8 * m)))
/-- the first byte, ahead of its cast -/
def rh_h (x1 x2 : Int32) (n : Nat) : Int32 := if n = 0 then x1 + x2 else (x1 + 55) + nI n
/-- the buffer behind a head that fits -/
def rh_out (x1 x2 : Int32) (n p : Nat) (a : Nat → Int32) : Nat → Int32 := rh_tail x2 n (p + 1) (upd a p (rh_h x1 x2 n).toInt8.toInt32)
end
section
/-! X's loop: m bytes are still to write -/
theorem rh_xloop {post : Int32 → SX → Prop} {x2 : Int32} {n p : Nat} (hn : n ≤ 4) (hp : p + 1 + n ≤ 12) : ∀ (m k : Nat) (a : Nat → Int32), k + m = n → post (nI (n + 1)) (nI (p + 1 + n), rh_tail x2 m (p + 1 + k) a) → wX_put_106 post x2 (nI n) (nI (n + 1)) (nI p) (m + 1) (nI k) a := by
  intro m
  induction m with
  | zero =>
    intro k a hk h
    obtain rfl : k = n := hk
    refine br_t (nI_le (Nat.le_refl k) (by omega)) ?_
    intro y ey
    have e : y = nI (p + 1 + k) := by
      rw [ey, nI_add]
      exact congrArg nI (by omega)
    rw [e]
    exact h
  | succ m ih =>
    intro k a hk h
    have e6 : 8 * ((nI n - 1) - nI k) = nI (8 * m) := by
      have e1 : nI n - 1 = nI (n - 1) := pk_sub (b := 1) (by omega)
      have e2 : n - 1 - k = m := by omega
      rw [e1, pk_sub (by omega), e2]
      exact pk_mul 8 m
    have ei : (nI p + 1) + nI k = nI (p + 1 + k) := by rw [nI_1, nI_add]
    refine br_f (nI_ge (by omega) (by omega)) (nm_r e6 ⟨?_, ?_⟩)
    · rw [ei]
      exact vp_in_nI (by omega) (by omega)
    · intro b eb
      have eb' : b = upd a (p + 1 + k) (rh_b x2 (8 * m)) := by
        rw [eb, ei, nI_clamp (by omega), pk_vb, rh_m255]
        rfl
      refine nm_r (nI_1 k) ?_
      rw [eb']
      exact ih (k + 1) _ (by omega) h
theorem rh_x47 {post : Int32 → SX → Prop} (x1 x2 : Int32) {n p : Nat} (a : Nat → Int32) (hn : n ≤ 4) (hp : p ≤ 12) (hf : p + 1 + n ≤ 12 → post (nI (n + 1)) (nI (p + 1 + n), rh_out x1 x2 n p a)) (ho : ¬ p + 1 + n ≤ 12 → post (-2) (nI p, a)) : wX_put_47 post x1 x2 (nI n) (nI p) a := by
  have e4 : 1 + nI n = nI (n + 1) := by rw [Int32.add_comm, nI_1]
  have e5 : nI p + nI (n + 1) = nI (p + 1 + n) := by
    rw [nI_add]
    exact congrArg nI (by omega)
  refine nm_r e4 ?_
  refine pk_le (p + 1 + n) 12 (fun z => ?_) (fun z => ho (by omega)) e5
  have hf := hf z
  refine pk_eq n 0 (fun w => ?_) (fun w => ?_)
  · refine And.intro (vp_in_nI (by omega) (by omega)) ?_
    intro b eb
    have eb' : b = upd a p (rh_h x1 x2 n).toInt8.toInt32 := by rw [eb, nI_clamp (by omega), pk_vb, rh_h, if_pos w]
    refine nm_r e5 ?_
    rw [eb']
    rw [rh_out] at hf
    subst w
    exact hf
  · refine And.intro (vp_in_nI (by omega) (by omega)) ?_
    intro b eb
    have eb' : b = upd a p (rh_h x1 x2 n).toInt8.toInt32 := by rw [eb, nI_clamp (by omega), pk_vb, rh_h, if_neg w]
    rw [eb']
    exact ⟨n + 1, rh_xloop hn z n 0 _ (by omega) hf⟩
/-! Y's joins, from the last up -/
theorem rh_y170 {post : Int32 → SY → Prop} {x2 : Int32} {n q : Nat} {a : Nat → Int32} (m : Nat) (hm : m = min n 1) (hn : n ≤ 4) (hq : q + m ≤ 12) (h : post (nI (n + 1)) (nI (q + m), rh_tail x2 m q a)) : wY_head_170 post x2 (nI n) (nI q) a := by
  refine pk_le n 0 (fun z => ?_) (fun z => ?_)
  · obtain rfl : m = 0 := by omega
    rw [nI_1]
    exact h
  · obtain rfl : m = 1 := by omega
    refine nm_r (nI_1 q) ⟨vp_in_nI (by omega) (by omega), ?_⟩
    intro b eb
    have eb' : b = upd a q (rh_b x2 (8 * 0)) := by rw [eb, nI_clamp (by omega), pk_vb, rh_b0]
    rw [eb', nI_1 n]
    exact h
theorem rh_y144 {post : Int32 → SY → Prop} {x2 : Int32} {n q : Nat} {a : Nat → Int32} (m : Nat) (hm : m = min n 2) (hn : n ≤ 4) (hq : q + m ≤ 12) (h : post (nI (n + 1)) (nI (q + m), rh_tail x2 m q a)) : wY_head_144 post x2 (nI n) (nI q) a := by
  refine pk_le n 1 (fun z => rh_y170 m (by omega) hn hq h) (fun z => ?_)
  obtain rfl : m = 2 := by omega
  refine nm_r (nI_1 q) ⟨vp_in_nI (by omega) (by omega), ?_⟩
  intro b eb
  have eb' : b = upd a q (rh_b x2 (8 * 1)) := by
    rw [eb, nI_clamp (by omega), pk_vb]
    rfl
  rw [eb']
  exact rh_y170 1 (by omega) hn (by omega) h
theorem rh_y118 {post : Int32 → SY → Prop} {x2 : Int32} {n q : Nat} {a : Nat → Int32} (m : Nat) (hm : m = min n 3) (hn : n ≤ 4) (hq : q + m ≤ 12) (h : post (nI (n + 1)) (nI (q + m), rh_tail x2 m q a)) : wY_head_118 post x2 (nI n) (nI q) a := by
  refine pk_le n 2 (fun z => rh_y144 m (by omega) hn hq h) (fun z => ?_)
  obtain rfl : m = 3 := by omega
  refine nm_r (nI_1 q) ⟨vp_in_nI (by omega) (by omega), ?_⟩
  intro b eb
  have eb' : b = upd a q (rh_b x2 (8 * 2)) := by
    rw [eb, nI_clamp (by omega), pk_vb]
    rfl
  rw [eb']
  exact rh_y144 2 (by omega) hn (by omega) h
theorem rh_y90 {post : Int32 → SY → Prop} {x2 z0 : Int32} {n p : Nat} {a : Nat → Int32} (hn : n ≤ 4) (hq : p + 1 + n ≤ 12) (h : post (nI (n + 1)) (nI (p + 1 + n), rh_tail x2 n (p + 1) (upd a p z0.toInt8.toInt32))) : wY_head_90 post x2 (nI n) z0 (nI p) (nI (p + 1)) a := by
  refine And.intro (vp_in_nI (by omega) (by omega)) ?_
  intro c ec
  have ec' : c = upd a p z0.toInt8.toInt32 := by rw [ec, nI_clamp (by omega), pk_vb]
  rw [ec']
  refine pk_le n 3 (fun z => rh_y118 n (by omega) hn hq h) (fun z => ?_)
  have h4 : n = 4 := by omega
  have e1 : p + 1 + n = p + 1 + 1 + 3 := by omega
  have e2 : rh_tail x2 n (p + 1) (upd a p z0.toInt8.toInt32) = rh_tail x2 3 (p + 1 + 1) (upd (upd a p z0.toInt8.toInt32) (p + 1) (rh_b x2 (8 * 3))) := by
    rw [h4, rh_tail]
  rw [e1, e2] at h
  refine nm_r (nI_1 (p + 1)) ⟨vp_in_nI (by omega) (by omega), ?_⟩
  intro b eb
  have eb' : b = upd (upd a p z0.toInt8.toInt32) (p + 1) (rh_b x2 (8 * 3)) := by
    rw [eb, nI_clamp (by omega), pk_vb]
    rfl
  rw [eb']
  exact rh_y118 3 (by omega) hn (by omega) h
theorem rh_y42 {post : Int32 → SY → Prop} (x1 x2 : Int32) {n p : Nat} (a : Nat → Int32) (hn : n ≤ 4) (hp : p ≤ 12) (hf : p + 1 + n ≤ 12 → post (nI (n + 1)) (nI (p + 1 + n), rh_out x1 x2 n p a)) (ho : ¬ p + 1 + n ≤ 12 → post (-2) (nI p, a)) : wY_head_42 post x1 x2 (nI n) (nI p) a := by
  have e5 : (nI p + 1) + nI n = nI (p + 1 + n) := by rw [nI_1, nI_add]
  refine pk_le (p + 1 + n) 12 (fun z => ?_) (fun z => ho (by omega)) e5
  have hf := hf z
  rw [rh_out, rh_h] at hf
  refine nm_r (nI_1 p) ?_
  refine pk_eq n 0 (fun w => ?_) (fun w => ?_)
  · rw [if_pos w] at hf
    exact rh_y90 hn z hf
  · rw [if_neg w] at hf
    exact rh_y90 hn z hf
/-! one outcome for both -/
theorem rh_47 (x1 x2 : Int32) (n : Nat) {p : Nat} (a : Nat → Int32) (hn : n ≤ 4) (hp : p ≤ 12) : ∃ (r : Int32) (q : Nat) (b : Nat → Int32), q ≤ 12 ∧ (∀ post : Int32 → SX → Prop, post r (nI q, b) → wX_put_47 post x1 x2 (nI n) (nI p) a) ∧ (∀ post : Int32 → SY → Prop, post r (nI q, b) → wY_head_42 post x1 x2 (nI n) (nI p) a) := by
  by_cases z : p + 1 + n ≤ 12
  · exact ⟨nI (n + 1), p + 1 + n, rh_out x1 x2 n p a, z, fun post h => rh_x47 x1 x2 a hn hp (fun _ => h) (fun w => absurd z w), fun post h => rh_y42 x1 x2 a hn hp (fun _ => h) (fun w => absurd z w)⟩
  · exact ⟨-2, p, a, hp, fun post h => rh_x47 x1 x2 a hn hp (fun w => absurd w z) (fun _ => h), fun post h => rh_y42 x1 x2 a hn hp (fun w => absurd w z) (fun _ => h)⟩
theorem rh_put (x1 x2 : Int32) {p : Nat} (a : Nat → Int32) (hp : p ≤ 12) : ∃ (r : Int32) (q : Nat) (b : Nat → Int32), q ≤ 12 ∧ (∀ post : Int32 → SX → Prop, post r (nI q, b) → wpX_put post (nI p, a) x1 x2) ∧ (∀ post : Int32 → SY → Prop, post r (nI q, b) → wpY_head post (nI p, a) x1 x2) := by
  by_cases h1 : (56 : Int32) ≤ x2
  · by_cases h2 : (256 : Int32) ≤ x2
    · by_cases h3 : (65536 : Int32) ≤ x2
      · by_cases h4 : (16777216 : Int32) ≤ x2
        · obtain ⟨r, q, b, hq, hX, hY⟩ := rh_47 x1 x2 4 a (by omega) hp
          exact ⟨r, q, b, hq, fun post h => br_t h1 (br_t h2 (br_t h3 (br_t h4 (hX post h)))), fun post h => br_t h1 (br_t h2 (br_t h3 (br_t h4 (hY post h))))⟩
        · obtain ⟨r, q, b, hq, hX, hY⟩ := rh_47 x1 x2 3 a (by omega) hp
          exact ⟨r, q, b, hq, fun post h => br_t h1 (br_t h2 (br_t h3 (br_f h4 (hX post h)))), fun post h => br_t h1 (br_t h2 (br_t h3 (br_f h4 (hY post h))))⟩
      · obtain ⟨r, q, b, hq, hX, hY⟩ := rh_47 x1 x2 2 a (by omega) hp
        exact ⟨r, q, b, hq, fun post h => br_t h1 (br_t h2 (br_f h3 (hX post h))), fun post h => br_t h1 (br_t h2 (br_f h3 (hY post h)))⟩
    · obtain ⟨r, q, b, hq, hX, hY⟩ := rh_47 x1 x2 1 a (by omega) hp
      exact ⟨r, q, b, hq, fun post h => br_t h1 (br_f h2 (hX post h)), fun post h => br_t h1 (br_f h2 (hY post h))⟩
  · obtain ⟨r, q, b, hq, hX, hY⟩ := rh_47 x1 x2 0 a (by omega) hp
    exact ⟨r, q, b, hq, fun post h => br_f h1 (hX post h), fun post h => br_f h1 (hY post h)⟩
end
section
/-- both hold the same position, at most 12, and the same buffer -/
def i_Rel (k : Nat) (u : SX) (v : SY) : Prop := ∃ (p : Nat) (a : Nat → Int32), p ≤ 12 ∧ u = (nI p, a) ∧ v = (nI p, a)
theorem i_up {k : Nat} {u : SX} {v : SY} (h : i_Rel k u v) : i_Rel (k + 3) u v := h
theorem i_vc0 : wpX_init (fun u => wpY_init (fun v => i_Rel 0 u v)) := ⟨0, fun _ => 0, by omega, rfl, rfl⟩
theorem rh_sX {post : Int32 → SX → Prop} {x1 r : Int32} {p q : Nat} {a b : Nat → Int32} (hX : ∀ post : Int32 → SX → Prop, post r (nI q, b) → wpX_put post (nI p, a) 128 x1) (h : post r (nI q, b)) : wX_stringHead_24 post x1 (nI p) a := by
  unfold wX_stringHead_24
  exact hX _ h
theorem rh_sY {post : Int32 → SY → Prop} {x1 r : Int32} {p q : Nat} {a b : Nat → Int32} (hY : ∀ post : Int32 → SY → Prop, post r (nI q, b) → wpY_head post (nI p, a) 128 x1) (h : post r (nI q, b)) : wY_stringHead_24 post x1 (nI p) a := by
  unfold wY_stringHead_24
  exact hY _ h
theorem i_vc_stringHead {k : Nat} {u : SX} {v : SY} (I : i_Rel k u v) (hk : k + 3 ≤ 1536) (v1 : Int32) (v2 : Int32) : wpX_stringHead (fun r u' => wpY_stringHead (fun r' v' => r' = r ∧ i_Rel (k + 3) u' v') v v1 v2) u v1 v2 := by
  obtain ⟨p, a, hp, rfl, rfl⟩ := I
  obtain ⟨r, q, b, hq, hX, hY⟩ := rh_put 128 v1 a hp
  by_cases h0 : 0 ≤ v1
  · by_cases h1 : v1 = 1
    · by_cases hf : 128 ≤ (v2 &&& 255)
      · exact br_t h0 (br_t h1 (br_t hf (rh_sX hX (br_t h0 (br_t h1 (br_t hf (rh_sY hY ⟨rfl, q, b, hq, rfl, rfl⟩)))))))
      · exact br_t h0 (br_t h1 (br_f hf (br_t h0 (br_t h1 (br_f hf ⟨rfl, p, a, hp, rfl, rfl⟩)))))
    · exact br_t h0 (br_f h1 (rh_sX hX (br_t h0 (br_f h1 (rh_sY hY ⟨rfl, q, b, hq, rfl, rfl⟩)))))
  · exact br_f h0 (br_f h0 ⟨rfl, p, a, hp, rfl, rfl⟩)
theorem i_vc_listHead {k : Nat} {u : SX} {v : SY} (I : i_Rel k u v) (hk : k + 3 ≤ 1536) (v1 : Int32) : wpX_listHead (fun r u' => wpY_listHead (fun r' v' => r' = r ∧ i_Rel (k + 3) u' v') v v1) u v1 := by
  obtain ⟨p, a, hp, rfl, rfl⟩ := I
  obtain ⟨r, q, b, hq, hX, hY⟩ := rh_put 192 v1 a hp
  by_cases h0 : 0 ≤ v1
  · refine br_t h0 (hX _ ?_)
    refine br_t h0 (hY _ ?_)
    exact ⟨rfl, q, b, hq, rfl, rfl⟩
  · exact br_f h0 (br_f h0 ⟨rfl, p, a, hp, rfl, rfl⟩)
theorem i_vc_classify {k : Nat} {u : SX} {v : SY} (I : i_Rel k u v) (hk : k + 3 ≤ 1536) (v1 : Int32) : wpX_classify (fun r => wpY_classify (fun r' => r' = r ∧ i_Rel (k + 3) u v) v v1) u v1 := by
  obtain ⟨p, a, hp, rfl, rfl⟩ := I
  have J : i_Rel (k + 3) (nI p, a) (nI p, a) := ⟨p, a, hp, rfl, rfl⟩
  intro x ex
  by_cases h1 : 128 ≤ x
  · by_cases h2 : 183 < x
    · by_cases h3 : 191 < x
      · by_cases h4 : 247 < x
        · refine br_t h1 (br_t h2 (br_t h3 (br_t h4 ?_)))
          intro y ey
          cases ey.trans ex.symm
          exact br_t h1 (br_t h2 (br_t h3 (br_t h4 ⟨rfl, J⟩)))
        · refine br_t h1 (br_t h2 (br_t h3 (br_f h4 ?_)))
          intro y ey
          cases ey.trans ex.symm
          exact br_t h1 (br_t h2 (br_t h3 (br_f h4 ⟨rfl, J⟩)))
      · refine br_t h1 (br_t h2 (br_f h3 ?_))
        intro y ey
        cases ey.trans ex.symm
        exact br_t h1 (br_t h2 (br_f h3 ⟨rfl, J⟩))
    · refine br_t h1 (br_f h2 ?_)
      intro y ey
      cases ey.trans ex.symm
      exact br_t h1 (br_f h2 ⟨rfl, J⟩)
  · refine br_f h1 ?_
    intro y ey
    cases ey.trans ex.symm
    exact br_f h1 ⟨rfl, J⟩
theorem i_vc_byteAt {k : Nat} {u : SX} {v : SY} (I : i_Rel k u v) (hk : k + 3 ≤ 1536) (v1 : Int32) : wpX_byteAt (fun r => wpY_byteAt (fun r' => r' = r ∧ i_Rel (k + 3) u v) v v1) u v1 := by
  obtain ⟨p, a, hp, rfl, rfl⟩ := I
  have J : i_Rel (k + 3) (nI p, a) (nI p, a) := ⟨p, a, hp, rfl, rfl⟩
  by_cases h0 : v1 < 0
  · exact br_t h0 (br_t h0 ⟨rfl, J⟩)
  · by_cases h1 : v1 < nI p
    · have hi : vp_in v1 12 := by
        obtain ⟨j, hj, rfl⟩ := nI_of h0
        rw [nI_ltI hj (by omega)] at h1
        exact vp_in_nI (by omega) (by omega)
      exact br_f h0 (br_t h1 ⟨hi, br_f h0 (br_t h1 ⟨hi, rfl, J⟩)⟩)
    · exact br_f h0 (br_f h1 (br_f h0 (br_f h1 ⟨rfl, J⟩)))
end
