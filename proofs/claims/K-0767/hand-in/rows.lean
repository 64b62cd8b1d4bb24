section
/-! rows taken from kit/rows (a starting text) -/
theorem pk_us {f : Nat → Int32} {k : Nat} {x : Int32} : upd f k x k = x := if_pos rfl
theorem pk_un {f : Nat → Int32} {k j : Nat} {x : Int32} (h : j ≠ k) : upd f k x j = f j := if_neg h
theorem pk_sub {a b : Nat} (h : b ≤ a) : nI a - nI b = nI (a - b) := by
  obtain ⟨c, rfl⟩ : ∃ c, a = c + b := ⟨a - b, by omega⟩
  rw [← nI_add, Int32.add_sub_cancel, Nat.add_sub_cancel]
theorem pk_le {x y : Int32} {A B : Prop} (a b : Nat) (f : a ≤ b → A) (g : b < a → B) (hx : x = nI a := by rfl) (hy : y = nI b := by rfl) (ha : a < 2 ^ 31 := by omega) (hb : b < 2 ^ 31 := by omega) : (x ≤ y → A) ∧ (¬ x ≤ y → B) := by
  subst hx hy
  rw [nI_leI ha hb]
  exact ⟨f, fun z => g (by omega)⟩
theorem pk_lt {x y : Int32} {A B : Prop} (a b : Nat) (f : a < b → A) (g : b ≤ a → B) (hx : x = nI a := by rfl) (hy : y = nI b := by rfl) (ha : a < 2 ^ 31 := by omega) (hb : b < 2 ^ 31 := by omega) : (x < y → A) ∧ (¬ x < y → B) := by
  subst hx hy
  rw [nI_ltI ha hb]
  exact ⟨f, fun z => g (by omega)⟩
theorem pk_eq {x y : Int32} {A B : Prop} (a b : Nat) (f : a = b → A) (g : a ≠ b → B) (hx : x = nI a := by rfl) (hy : y = nI b := by rfl) (ha : a < 2 ^ 31 := by omega) (hb : b < 2 ^ 31 := by omega) : (x = y → A) ∧ (¬ x = y → B) := by
  subst hx hy
  rw [nI_eq ha hb]
  exact ⟨f, g⟩
theorem pk_in {x : Int32} (n N : Nat) (h : n < N) (hx : x = nI n := by rfl) (hN : N < 2 ^ 31 := by omega) : vp_in x N := by
  subst hx
  exact vp_in_nI h hN
theorem pk_cl {x : Int32} (n : Nat) (hx : x = nI n := by rfl) (h : n < 2 ^ 31 := by omega) : x.toNatClampNeg = n := by
  subst hx
  exact nI_clamp h
theorem pk_tn {n : Nat} (h : n < 2 ^ 32) : (nI n).toBitVec.toNat = n := Nat.mod_eq_of_lt h
theorem pk_and (x : Int32) {m : Int32} (k : Nat) (hm : m.toBitVec.toNat = 2 ^ k - 1) : x &&& m = nI (x.toBitVec.toNat % 2 ^ k) := by
  apply Int32.toBitVec_inj.mp
  apply BitVec.eq_of_toNat_eq
  rw [Int32.toBitVec_and, BitVec.toNat_and, hm, Nat.and_two_pow_sub_one_eq_mod]
  show _ = (BitVec.ofNat 32 _).toNat
  rw [BitVec.toNat_ofNat]
  exact (Nat.mod_eq_of_lt (Nat.lt_of_le_of_lt (Nat.mod_le _ _) x.toBitVec.isLt)).symm
theorem pk_andE (x : Int32) {m : Int32} (k : Nat) (hm : m.toBitVec.toNat = 2 ^ k - 1) : ∃ j : Nat, j < 2 ^ k ∧ x &&& m = nI j := ⟨_, Nat.mod_lt _ (Nat.two_pow_pos k), pk_and x k hm⟩
theorem pk_andIn (x : Int32) {m : Int32} (k : Nat) (hm : m.toBitVec.toNat = 2 ^ k - 1) (hk : k ≤ 30) : vp_in (x &&& m) (2 ^ k) := by
  obtain ⟨j, hj, e⟩ := pk_andE x k hm
  rw [e]
  exact vp_in_nI hj (Nat.lt_of_le_of_lt (Nat.pow_le_pow_right (by decide) hk) (by decide))
theorem pk_vb (z : Int32) : vp_nar .byte z.toInt8.toInt32 = z.toInt8.toInt32 := by rw [vp_nar_byte]; simp
theorem bp_b (x : Int32) : x.toInt8.toInt32 &&& 255 = x &&& 255 := by
  apply Int32.toBitVec_inj.mp
  rw [Int32.toBitVec_and, Int32.toBitVec_and, Int8.toBitVec_toInt32, Int32.toBitVec_toInt8]
  apply BitVec.eq_of_getLsbD_eq
  intro i hi
  rw [BitVec.getLsbD_and, BitVec.getLsbD_and]
  have hm : ∀ i < 32, 8 ≤ i → (255 : Int32).toBitVec.getLsbD i = false := by decide
  rcases Nat.lt_or_ge i 8 with z | z
  · rw [BitVec.getLsbD_signExtend, BitVec.getLsbD_signExtend, if_pos z, if_pos hi]
    simp only [z, hi, decide_true, Bool.true_and]
  · rw [hm i hi z]; simp
/-! own rows: low bytes, the round up to a multiple of four -/
def de_lb (x : Int32) : Nat := x.toBitVec.toNat % 256
def de_up4 (m : Nat) : Nat := (7 + m) / 4 * 4
theorem de_lb_lt (x : Int32) : de_lb x < 256 := Nat.mod_lt _ (by decide)
theorem de_and (x : Int32) : x &&& 255 = nI (de_lb x) := pk_and x 8 (by decide)
theorem de_up : ∀ m, m < 256 → (7 + nI m) &&& (-4) = nI (de_up4 m) := by decide +kernel
theorem de_124 : ∀ m, m < 32 → nI (4 * m) &&& 124 = nI (4 * m) := by decide +kernel
theorem de_lbN {n : Nat} (h : n < 2 ^ 32) : de_lb (nI n) = n % 256 := by
  unfold de_lb
  rw [pk_tn h]
theorem de_cast (x : Int32) : de_lb x.toInt8.toInt32 = de_lb x := by
  have h := bp_b x
  rw [de_and, de_and] at h
  have h1 := de_lb_lt x
  have h2 := de_lb_lt x.toInt8.toInt32
  exact (nI_eq (by omega) (by omega)).mp h
theorem de_nar (x : Int32) : de_lb (vp_nar .byte x.toInt8.toInt32) = de_lb x := by
  rw [pk_vb, de_cast]
theorem de_eq8 {x y : Int32} (h : de_lb x = de_lb y) : x.toInt8.toInt32 = y.toInt8.toInt32 := by
  have e : x.toInt8 = y.toInt8 := by
    apply Int8.toBitVec_inj.mp
    rw [Int32.toBitVec_toInt8, Int32.toBitVec_toInt8]
    apply BitVec.eq_of_toNat_eq
    rw [BitVec.signExtend_eq_setWidth_of_le _ (by decide), BitVec.signExtend_eq_setWidth_of_le _ (by decide), BitVec.toNat_setWidth, BitVec.toNat_setWidth]
    exact h
  rw [e]
theorem de_add (x y : Int32) : de_lb (x + y) = (de_lb x + de_lb y) % 256 := by
  unfold de_lb
  rw [Int32.toBitVec_add, BitVec.toNat_add]
  omega
theorem de_sub (x : Int32) {m : Nat} (h : m ≤ de_lb x) : de_lb (x - nI m) = de_lb x - m := by
  have hb := de_lb_lt x
  have hx := x.toBitVec.isLt
  unfold de_lb at *
  rw [Int32.toBitVec_sub, BitVec.toNat_sub, pk_tn (by omega)]
  omega
theorem de_a2 (o : Nat) : nI o + 2 = nI (o + 2) := nI_add o 2
theorem de_a3 (o : Nat) : nI o + 3 = nI (o + 3) := nI_add o 3
theorem de_up4_ge (m : Nat) : 4 ≤ de_up4 m := by unfold de_up4; omega
theorem de_up4_lt {m : Nat} (h : m < 256) : de_up4 m < 264 := by unfold de_up4; omega
theorem de_up4_mod (m : Nat) : de_up4 m % 4 = 0 := by unfold de_up4; omega
theorem de_uc {f : Nat → Int32} {i j : Nat} {x y : Int32} (h : i ≠ j) : upd (upd f i x) j y = upd (upd f j y) i x := by
  funext q
  unfold upd
  by_cases h1 : q = j
  · have h2 : ¬ q = i := by omega
    rw [if_pos h1, if_neg h2, if_pos h1]
  · rw [if_neg h1, if_neg h1]
end
section
/-! the chain of records: S is the set of its offsets, 0 and 128 among them -/
def de_rl (a : Nat → Int32) (o : Nat) : Nat := de_lb (a (o + 1))
def de_us (a : Nat → Int32) (o : Nat) : Nat := if a o = 0 then 0 else de_up4 (de_lb (a (o + 2)))
def de_Ok (a : Nat → Int32) (S : Nat → Prop) : Prop :=
  S 0 ∧ (∀ o, S o → o % 4 = 0 ∧ o ≤ 128) ∧
  (∀ o, S o → o < 128 → 4 ≤ de_rl a o ∧ S (o + de_rl a o) ∧ de_us a o ≤ de_rl a o) ∧
  (∀ o p, S o → S p → o < p → o + de_rl a o ≤ p)
theorem de_us0 {a : Nat → Int32} {o : Nat} (h : a o = 0) : de_us a o = 0 := if_pos h
theorem de_us1 {a : Nat → Int32} {o : Nat} (h : ¬ a o = 0) : de_us a o = de_up4 (de_lb (a (o + 2))) := if_neg h
theorem de_us_le (a : Nat → Int32) (o : Nat) : de_us a o ≤ de_up4 (de_lb (a (o + 2))) := by
  by_cases h : a o = 0
  · rw [de_us0 h]; exact Nat.zero_le _
  · rw [de_us1 h]; exact Nat.le_refl _
theorem de_us_mod (a : Nat → Int32) (o : Nat) : de_us a o % 4 = 0 := by
  by_cases h : a o = 0
  · rw [de_us0 h]
  · rw [de_us1 h]; exact de_up4_mod _
theorem de_rl_lt (a : Nat → Int32) (o : Nat) : de_rl a o < 256 := de_lb_lt _
theorem de_rlE {a a' : Nat → Int32} {o : Nat} (h : a' (o + 1) = a (o + 1)) : de_rl a' o = de_rl a o := congrArg de_lb h
theorem de_usE {a a' : Nat → Int32} {o : Nat} (h : a' o = a o) (h2 : a' (o + 2) = a (o + 2)) : de_us a' o = de_us a o := by
  unfold de_us
  rw [h, h2]
/-- the new block: one free record of 128 bytes -/
theorem de_ok0 : ∃ S, de_Ok (upd (fun _ => 0) 1 (vp_nar .byte (-128))) S := by
  have hr : de_rl (upd (fun _ => 0) 1 (vp_nar .byte (-128))) 0 = 128 := by
    show de_lb (vp_nar .byte (-128)) = 128
    rw [vp_nar_byte]
    decide
  have hu : de_us (upd (fun _ => 0) 1 (vp_nar .byte (-128))) 0 = 0 := de_us0 rfl
  refine ⟨fun o => o = 0 ∨ o = 128, Or.inl rfl, ?_, ?_, ?_⟩
  · intro o ho
    rcases ho with rfl | rfl <;> decide
  · intro o ho hl
    rcases ho with rfl | rfl
    · rw [hr, hu]
      exact ⟨by decide, Or.inr rfl, by decide⟩
    · omega
  · intro o p ho hp hl
    rcases ho with rfl | rfl
    · rw [hr]
      rcases hp with rfl | rfl <;> omega
    · rcases hp with rfl | rfl <;> omega
/-- stores that leave every record's length, and no record overfull -/
theorem de_okK {a a' : Nat → Int32} {S : Nat → Prop} (h : de_Ok a S)
    (hr : ∀ q, S q → q < 128 → de_rl a' q = de_rl a q ∧ de_us a' q ≤ de_rl a q) : de_Ok a' S := by
  obtain ⟨h0, hm, hc, hn⟩ := h
  refine ⟨h0, hm, ?_, ?_⟩
  · intro o ho hl
    obtain ⟨e, hu⟩ := hr o ho hl
    obtain ⟨c1, c2, c3⟩ := hc o ho hl
    rw [e]
    exact ⟨c1, c2, hu⟩
  · intro o p ho hp hl
    have h1 := (hm p hp).2
    rw [(hr o ho (by omega)).1]
    exact hn o p ho hp hl
/-- a free record is taken, or a record's name is written anew -/
theorem de_okP {a : Nat → Int32} {S : Nat → Prop} (h : de_Ok a S) {o : Nat} (ho : S o) (hl : o < 128) (x y : Int32)
    (hy : de_up4 (de_lb y) ≤ de_rl a o) : de_Ok (upd (upd a o x) (o + 2) y) S := by
  refine de_okK h ?_
  intro q hq hql
  have m1 := (h.2.1 o ho).1
  have m2 := (h.2.1 q hq).1
  have e : de_rl (upd (upd a o x) (o + 2) y) q = de_rl a q := by
    refine de_rlE ?_
    rw [pk_un (by omega), pk_un (by omega)]
  refine ⟨e, ?_⟩
  by_cases z : q = o
  · subst z
    refine Nat.le_trans (de_us_le _ _) ?_
    rw [pk_us]
    exact hy
  · rw [de_usE (a := a) (by rw [pk_un (by omega), pk_un (by omega)]) (by rw [pk_un (by omega), pk_un (by omega)])]
    exact (h.2.2.1 q hq hql).2.2
/-- the first record is freed -/
theorem de_okF {a : Nat → Int32} {S : Nat → Prop} (h : de_Ok a S) : de_Ok (upd a 0 (vp_nar .byte 0)) S := by
  refine de_okK h ?_
  intro q hq hql
  have m2 := (h.2.1 q hq).1
  refine ⟨de_rlE (pk_un (by omega)), ?_⟩
  by_cases z : q = 0
  · subst z
    rw [de_us0 (by rw [pk_us, vp_nar_byte]; decide)]
    exact Nat.zero_le _
  · rw [de_usE (a := a) (pk_un (by omega)) (pk_un (by omega))]
    exact (h.2.2.1 q hq hql).2.2
/-- a record is cut in two -/
theorem de_okS {a : Nat → Int32} {S : Nat → Prop} (h : de_Ok a S) {o n : Nat} (ho : S o) (hl : o < 128) (hz : ¬ a o = 0)
    (hn : n = o + de_us a o) (s w x y : Int32) (hs : de_lb s = de_rl a o - de_us a o) (hw : de_lb w = de_us a o)
    (hy : de_up4 (de_lb y) ≤ de_rl a o - de_us a o) :
    ∃ S', de_Ok (upd (upd (upd (upd a (n + 1) s) (o + 1) w) n x) (n + 2) y) S' := by
  obtain ⟨h0, hm, hc, hv⟩ := h
  have m1 := (hm o ho).1
  have u4 := de_us_mod a o
  have u5 : 4 ≤ de_us a o := by rw [de_us1 hz]; exact de_up4_ge _
  have y4 := de_up4_ge (de_lb y)
  obtain ⟨c1, c2, c3⟩ := hc o ho hl
  have c4 := hm _ c2
  have hnS : ∀ q, S q → q ≠ n := by
    intro q hq e
    have := hv o q ho hq (by omega)
    omega
  -- the records' lengths and names behind the stores
  have r1 : ∀ q, S q → q ≠ o → de_rl (upd (upd (upd (upd a (n + 1) s) (o + 1) w) n x) (n + 2) y) q = de_rl a q := by
    intro q hq hne
    have := (hm q hq).1
    have := hnS q hq
    refine de_rlE ?_
    rw [pk_un (by omega), pk_un (by omega), pk_un (by omega), pk_un (by omega)]
  have v1 : ∀ q, S q → de_us (upd (upd (upd (upd a (n + 1) s) (o + 1) w) n x) (n + 2) y) q = de_us a q := by
    intro q hq
    have := (hm q hq).1
    have := hnS q hq
    refine de_usE ?_ ?_
    · rw [pk_un (by omega), pk_un (by omega), pk_un (by omega), pk_un (by omega)]
    · rw [pk_un (by omega), pk_un (by omega), pk_un (by omega), pk_un (by omega)]
  have r2 : de_rl (upd (upd (upd (upd a (n + 1) s) (o + 1) w) n x) (n + 2) y) o = de_us a o := by
    rw [← hw]
    refine congrArg de_lb ?_
    rw [pk_un (by omega), pk_un (by omega), pk_us]
  have r3 : de_rl (upd (upd (upd (upd a (n + 1) s) (o + 1) w) n x) (n + 2) y) n = de_rl a o - de_us a o := by
    rw [← hs]
    refine congrArg de_lb ?_
    rw [pk_un (by omega), pk_un (by omega), pk_un (by omega), pk_us]
  have v3 : de_us (upd (upd (upd (upd a (n + 1) s) (o + 1) w) n x) (n + 2) y) n ≤ de_rl a o - de_us a o := by
    refine Nat.le_trans (de_us_le _ _) ?_
    rw [pk_us]
    exact hy
  generalize upd (upd (upd (upd a (n + 1) s) (o + 1) w) n x) (n + 2) y = a' at r1 v1 r2 r3 v3 ⊢
  refine ⟨fun q => S q ∨ q = n, Or.inl h0, ?_, ?_, ?_⟩
  · intro q hq
    rcases hq with hq | rfl
    · exact hm q hq
    · omega
  · intro q hq hql
    rcases hq with hq | rfl
    · by_cases z : q = o
      · subst z
        rw [r2, v1 q hq]
        exact ⟨u5, Or.inr hn.symm, Nat.le_refl _⟩
      · obtain ⟨d1, d2, d3⟩ := hc q hq hql
        rw [r1 q hq z, v1 q hq]
        exact ⟨d1, Or.inl d2, d3⟩
    · rw [r3]
      refine ⟨by omega, Or.inl ?_, v3⟩
      have e : q + (de_rl a o - de_us a o) = o + de_rl a o := by omega
      rw [e]
      exact c2
  · intro q p hq hp hqp
    rcases hq with hq | rfl
    · rcases hp with hp | rfl
      · have k := hv q p hq hp hqp
        by_cases z : q = o
        · subst z
          rw [r2]
          omega
        · rw [r1 q hq z]
          exact k
      · by_cases z : q = o
        · subst z
          rw [r2]
          omega
        · rw [r1 q hq z]
          by_cases z2 : q < o
          · have := hv q o hq ho z2
            omega
          · have := hv o q ho hq (by omega)
            omega
    · rw [r3]
      rcases hp with hp | rfl
      · have := hv o p ho hp (by omega)
        omega
      · omega
/-- a record is joined to the one ahead of it -/
theorem de_okM {a : Nat → Int32} {S : Nat → Prop} (h : de_Ok a S) {o p : Nat} (ho : S o) (hl : o < 128) (hp : S p)
    (hpo : p + de_rl a p = o) (w : Int32) (hw : de_lb w = (de_rl a p + de_rl a o) % 256) :
    ∃ S', de_Ok (upd a (p + 1) w) S' := by
  obtain ⟨h0, hm, hc, hv⟩ := h
  have hp8 : p < 128 := by omega
  obtain ⟨c1, c2, c3⟩ := hc o ho hl
  obtain ⟨d1, d2, d3⟩ := hc p hp hp8
  have c4 := hm _ c2
  have mp := (hm p hp).1
  have r1 : ∀ q, S q → q ≠ p → de_rl (upd a (p + 1) w) q = de_rl a q := by
    intro q hq hne
    have := (hm q hq).1
    exact de_rlE (pk_un (by omega))
  have v1 : ∀ q, S q → de_us (upd a (p + 1) w) q = de_us a q := by
    intro q hq
    have := (hm q hq).1
    exact de_usE (pk_un (by omega)) (pk_un (by omega))
  have r2 : de_rl (upd a (p + 1) w) p = de_rl a p + de_rl a o := by
    have e : de_rl (upd a (p + 1) w) p = de_lb w := congrArg de_lb pk_us
    rw [e, hw]
    omega
  generalize upd a (p + 1) w = a' at r1 v1 r2 ⊢
  refine ⟨fun q => S q ∧ q ≠ o, ⟨h0, by omega⟩, fun q hq => hm q hq.1, ?_, ?_⟩
  · intro q hq hql
    obtain ⟨hq, hne⟩ := hq
    by_cases z : q = p
    · subst z
      rw [r2, v1 q hq]
      refine ⟨by omega, ⟨?_, by omega⟩, by omega⟩
      have e : q + (de_rl a q + de_rl a o) = o + de_rl a o := by omega
      rw [e]
      exact c2
    · obtain ⟨e1, e2, e3⟩ := hc q hq hql
      rw [r1 q hq z, v1 q hq]
      refine ⟨e1, ⟨e2, ?_⟩, e3⟩
      by_cases z2 : q < p
      · have := hv q p hq hp z2
        omega
      · have := hv p q hp hq (by omega)
        omega
  · intro q r hq hr hqr
    obtain ⟨hq, hne⟩ := hq
    obtain ⟨hr, hne'⟩ := hr
    by_cases z : q = p
    · subst z
      rw [r2]
      have := hv q r hq hr hqr
      have := hv o r ho hr (by omega)
      omega
    · rw [r1 q hq z]
      exact hv q r hq hr hqr
end
section
/-! one step of each printed loop, in naturals; o is the record's offset -/
theorem de_end {A B C : Prop} (h : A) : (nI 128 < 0 → B) ∧ (¬ nI 128 < 0 → ((128 ≤ nI 128 + 3 → A) ∧ (¬ 128 ≤ nI 128 + 3 → C))) :=
  br_f (by decide) (br_t (by decide) h)
theorem de_in {o : Nat} (ho : o < 125) : ¬ nI o < 0 ∧ ¬ 128 ≤ nI o + 3 := by
  refine ⟨nI_pos (by omega), ?_⟩
  rw [de_a3]
  exact nI_ge (b := 128) (by omega) (by omega)
theorem de_in124 {o : Nat} (ho : o < 125) : ¬ 124 < nI o := nI_nlt (a := 124) (by omega) (by omega)
-- the component: find
theorem de_xf0 {post : Int32 → Prop} {k : Int32} {a : Nat → Int32} {n : Nat} (h : post (-1)) : wX_find_15 post k a (n + 1) (nI 128) := de_end h
theorem de_xf {post : Int32 → Prop} {k : Nat} (hk : k < 256) {a : Nat → Int32} {n o : Nat} (ho : o < 125) (hr : de_rl a o ≠ 0)
    (h1 : de_lb (a o) = k → post (nI o)) (h2 : de_lb (a o) ≠ k → wX_find_15 post (nI k) a n (nI (o + de_rl a o))) :
    wX_find_15 post (nI k) a (n + 1) (nI o) := by
  have b1 := de_lb_lt (a o)
  have b2 := de_rl_lt a o
  refine br_f (de_in ho).1 (br_f (de_in ho).2 ⟨vp_in_nI (by omega) (by omega), ?_⟩)
  rw [nI_clamp (by omega), nI_1, nI_clamp (by omega), de_and, de_and]
  refine pk_eq (de_lb (a o)) k h1 (fun z => ⟨vp_in_nI (by omega) (by omega), nm_e (br_f ?_ (nm_r (nI_add _ _) (h2 z)))⟩)
  exact nI_ne0 (n := de_rl a o) (by omega) (by omega)
-- the component: remove
def de_hit (post : Int32 → SX → Prop) (a : Nat → Int32) (p : Int32) (o : Nat) : Prop :=
  (o = 0 → post (nI (de_rl a 0)) (upd a 0 (vp_nar .byte 0))) ∧
  (o ≠ 0 → ∃ q : Nat, q < 125 ∧ p = nI q ∧ post ((nI (de_rl a q + de_rl a o)).toInt8.toInt32 &&& 255) (upd a (q + 1) ((nI (de_rl a q + de_rl a o)).toInt8.toInt32)))
theorem de_xr0 {post : Int32 → SX → Prop} {k p : Int32} {a : Nat → Int32} {n : Nat} (h : post (-1) a) : wX_remove_18 post k a (n + 1) p (nI 128) := de_end h
theorem de_xr {post : Int32 → SX → Prop} {k : Nat} (hk : k < 256) {a : Nat → Int32} {n o : Nat} {p : Int32} (ho : o < 125) (hr : de_rl a o ≠ 0)
    (h1 : de_lb (a o) = k → de_hit post a p o) (h2 : de_lb (a o) ≠ k → wX_remove_18 post (nI k) a n (nI o) (nI (o + de_rl a o))) :
    wX_remove_18 post (nI k) a (n + 1) p (nI o) := by
  have b1 := de_lb_lt (a o)
  have b2 := de_rl_lt a o
  refine br_f (de_in ho).1 (br_f (de_in ho).2 ?_)
  rw [nI_1, nI_clamp (by omega), nI_clamp (by omega), de_and, de_and]
  refine ⟨vp_in_nI (by omega) (by omega), nm_e (e := nI (de_rl a o)) ⟨vp_in_nI (by omega) (by omega), ?_⟩⟩
  refine pk_eq (de_lb (a o)) k (fun z => ?_) (fun z => br_f ?_ (nm_r (nI_add _ _) (h2 z)))
  · refine pk_eq o 0 (fun z0 => nm_e ?_) (fun z0 => ?_)
    · have g := (h1 z).1 z0
      subst z0
      exact g
    · obtain ⟨q, hq, rfl, g⟩ := (h1 z).2 z0
      have b3 := de_rl_lt a q
      rw [nI_1, nI_clamp (by omega), de_and]
      have hi : vp_in (nI (q + 1)) 128 := vp_in_nI (by omega) (by omega)
      refine ⟨hi, nm_r (nI_add _ _) ⟨hi, nm_r (congrArg (upd a (q + 1)) (pk_vb _)) ⟨hi, ?_⟩⟩⟩
      rw [pk_us]
      exact g
  · exact nI_ne0 (by omega) (by omega)
-- the component: add
theorem de_x171 {post : Int32 → SX → Prop} {x1 x2 : Int32} {n : Nat} {a : Nat → Int32} (hn : n < 125)
    (h : post (nI n) (upd (upd a n x1.toInt8.toInt32) (n + 2) x2.toInt8.toInt32)) : wX_add_171 post x1 x2 (nI n) a := by
  unfold wX_add_171
  rw [de_a2, nI_clamp (by omega), nI_clamp (by omega), pk_vb, pk_vb]
  exact ⟨vp_in_nI (by omega) (by omega), nm_e ⟨vp_in_nI (by omega) (by omega), nm_e h⟩⟩
def de_ahit (post : Int32 → SX → Prop) (x1 x2 : Int32) (a : Nat → Int32) (o : Nat) : Prop :=
  (a o = 0 → post (nI o) (upd (upd a o x1.toInt8.toInt32) (o + 2) x2.toInt8.toInt32)) ∧
  (¬ a o = 0 → o + de_us a o < 125 ∧ post (nI (o + de_us a o))
    (upd (upd (upd (upd a (o + de_us a o + 1) (nI (de_rl a o - de_us a o)).toInt8.toInt32) (o + 1) (nI (de_us a o)).toInt8.toInt32) (o + de_us a o) x1.toInt8.toInt32) (o + de_us a o + 2) x2.toInt8.toInt32))
theorem de_x100 {post : Int32 → SX → Prop} {J : Int32 → Prop} {x1 x2 : Int32} {m o : Nat} {a : Nat → Int32} (ho : o < 125) (hm : m < 1024) (hr : de_rl a o ≠ 0)
    (hu : de_us a o ≤ de_rl a o)
    (h1 : m ≤ de_rl a o - de_us a o → de_ahit post x1 x2 a o) (h2 : de_rl a o - de_us a o < m → J (nI (o + de_rl a o))) :
    wX_add_100 post J x1 x2 (nI m) (nI o) (nI (de_rl a o)) (nI (de_us a o)) a := by
  have b2 := de_rl_lt a o
  unfold wX_add_100
  rw [nI_clamp (by omega)]
  refine nm_r (pk_sub hu) (pk_lt (de_rl a o - de_us a o) m (fun z => br_f ?_ (nm_r (nI_add _ _) (h2 z))) (fun z => ⟨vp_in_nI (by omega) (by omega), ?_⟩))
  · exact nI_ne0 (by omega) (by omega)
  · refine br_c (fun z0 => de_x171 ho ((h1 z).1 z0)) (fun z0 => ?_)
    obtain ⟨g1, g2⟩ := (h1 z).2 z0
    refine nm_r (nI_add _ _) (br_t ?_ ?_)
    · rw [de_a3]
      exact nI_lt (b := 128) (by omega) (by omega)
    · rw [nI_1, nI_1, nI_clamp (by omega), nI_clamp (by omega), pk_vb, pk_vb]
      exact ⟨vp_in_nI (by omega) (by omega), nm_e ⟨vp_in_nI (by omega) (by omega), nm_e (de_x171 g1 g2)⟩⟩
theorem de_xa0 {post : Int32 → SX → Prop} {x1 x2 x4 : Int32} {a : Nat → Int32} {n : Nat} (h : post (-1) a) : wX_add_36 post x1 x2 x4 a (n + 1) (nI 128) := de_end h
theorem de_xa {post : Int32 → SX → Prop} {x1 x2 : Int32} {m n o : Nat} {a : Nat → Int32} (ho : o < 125) (hm : m < 1024) (hr : de_rl a o ≠ 0)
    (hu : de_us a o ≤ de_rl a o)
    (h1 : m ≤ de_rl a o - de_us a o → de_ahit post x1 x2 a o) (h2 : de_rl a o - de_us a o < m → wX_add_36 post x1 x2 (nI m) a n (nI (o + de_rl a o))) :
    wX_add_36 post x1 x2 (nI m) a (n + 1) (nI o) := by
  have K := de_x100 (J := wX_add_36 post x1 x2 (nI m) a n) ho hm hr hu h1 h2
  refine br_f (de_in ho).1 (br_f (de_in ho).2 ?_)
  rw [nI_1, de_a2, nI_clamp (by omega), nI_clamp (by omega), nI_clamp (by omega), de_and, de_and, de_up _ (de_lb_lt _)]
  refine ⟨vp_in_nI (by omega) (by omega), nm_e (e := nI (de_rl a o)) ⟨vp_in_nI (by omega) (by omega), br_c (fun z => ?_) (fun z => ?_)⟩⟩
  · rw [de_us0 z] at K
    exact K
  · rw [de_us1 z] at K
    exact ⟨vp_in_nI (by omega) (by omega), nm_e K⟩
-- the reference: walk by a key, walk by room
theorem de_y0 {post : Int32 → SY → Prop} {x1 x2 p : Int32} {a : Nat → Int32} {n : Nat} (h : post (-1) (p, a)) : wY_walk_7 post x1 x2 a (n + 1) (nI 128) p :=
  br_t (by decide) h
theorem de_yk44 {post : Int32 → SY → Prop} {J : Int32 → Int32 → Prop} {k : Nat} (hk : k < 256) {o : Nat} {z0 p : Int32} {a : Nat → Int32} (ho : o < 125)
    (h1 : de_lb (a o) = k → post (nI o) (p, a)) (h2 : de_lb (a o) ≠ k → J (nI (o + de_rl a o)) (nI o)) :
    wY_walk_44 post J (nI k) 0 (nI o) z0 p a := by
  have b1 := de_lb_lt (a o)
  unfold wY_walk_44 wY_walk_92
  rw [nI_1, nI_clamp (by omega), nI_clamp (by omega), de_and, de_and]
  exact ⟨vp_in_nI (by omega) (by omega), nm_e (br_t rfl ⟨vp_in_nI (by omega) (by omega), pk_eq (de_lb (a o)) k h1 (fun z => nm_r (nI_add _ _) (h2 z))⟩)⟩
theorem de_yk {post : Int32 → SY → Prop} {k : Nat} (hk : k < 256) {n o : Nat} {p : Int32} {a : Nat → Int32} (ho : o < 125)
    (h1 : de_lb (a o) = k → post (nI o) (p, a)) (h2 : de_lb (a o) ≠ k → wY_walk_7 post (nI k) 0 a n (nI (o + de_rl a o)) (nI o)) :
    wY_walk_7 post (nI k) 0 a (n + 1) (nI o) p := by
  refine br_f (de_in124 ho) ⟨vp_in_nI (by omega) (by omega), br_c (fun _ => de_yk44 hk ho h1 h2) (fun _ => ⟨?_, de_yk44 hk ho h1 h2⟩)⟩
  rw [de_a2]
  exact vp_in_nI (by omega) (by omega)
theorem de_yn44 {post : Int32 → SY → Prop} {J : Int32 → Int32 → Prop} {m o : Nat} {x1 p : Int32} {a : Nat → Int32} (ho : o < 125) (hm : m < 1024) (h0 : 0 < m)
    (hu : de_us a o ≤ de_rl a o)
    (h1 : m ≤ de_rl a o - de_us a o → post (nI o) (p, a)) (h2 : de_rl a o - de_us a o < m → J (nI (o + de_rl a o)) (nI o)) :
    wY_walk_44 post J x1 (nI m) (nI o) (nI (de_us a o)) p a := by
  have b2 := de_rl_lt a o
  unfold wY_walk_44 wY_walk_92
  rw [nI_1, nI_clamp (n := o + 1) (by omega), de_and (a (o + 1))]
  refine ⟨vp_in_nI (by omega) (by omega), nm_e (e := nI (de_rl a o)) (br_f (nI_ne0 h0 (by omega)) ?_)⟩
  rw [pk_sub hu]
  exact pk_lt (de_rl a o - de_us a o) m (fun z => nm_r (nI_add _ _) (h2 z)) h1
theorem de_yn {post : Int32 → SY → Prop} {m n o : Nat} {x1 p : Int32} {a : Nat → Int32} (ho : o < 125) (hm : m < 1024) (h0 : 0 < m)
    (hu : de_us a o ≤ de_rl a o)
    (h1 : m ≤ de_rl a o - de_us a o → post (nI o) (p, a)) (h2 : de_rl a o - de_us a o < m → wY_walk_7 post x1 (nI m) a n (nI (o + de_rl a o)) (nI o)) :
    wY_walk_7 post x1 (nI m) a (n + 1) (nI o) p := by
  have K := de_yn44 (x1 := x1) (J := wY_walk_7 post x1 (nI m) a n) ho hm h0 hu h1 h2
  refine br_f (de_in124 ho) ⟨vp_in_nI (by omega) (by omega), ?_⟩
  rw [nI_clamp (by omega), de_a2, nI_clamp (by omega), de_and, de_up _ (de_lb_lt _)]
  refine br_c (fun z => ?_) (fun z => ?_)
  · rw [de_us0 z] at K
    exact K
  · rw [de_us1 z] at K
    exact ⟨vp_in_nI (by omega) (by omega), K⟩
end
section
/-! component and reference in lockstep: one outcome for both -/
theorem de_find {a : Nat → Int32} {S : Nat → Prop} (H : de_Ok a S) {k : Nat} (hk : k < 256) : ∀ (d o : Nat) (p : Int32), S o → 128 - o < d →
    ∃ r f : Int32, (∀ post : Int32 → Prop, post r → wX_find_15 post (nI k) a d (nI o)) ∧
      (∀ post : Int32 → SY → Prop, post r (f, a) → wY_walk_7 post (nI k) 0 a d (nI o) p) := by
  intro d
  induction d with
  | zero => intro o p _ h; omega
  | succ d ih =>
    intro o p hS hd
    have m := H.2.1 o hS
    by_cases z : o = 128
    · subst z
      exact ⟨-1, p, fun post h => de_xf0 h, fun post h => de_y0 h⟩
    · have ho : o < 125 := by omega
      obtain ⟨c1, c2, c3⟩ := H.2.2.1 o hS (by omega)
      by_cases e : de_lb (a o) = k
      · exact ⟨nI o, p, fun post h => de_xf hk ho (by omega) (fun _ => h) (fun z => absurd e z), fun post h => de_yk hk ho (fun _ => h) (fun z => absurd e z)⟩
      · obtain ⟨r, f, hX, hY⟩ := ih (o + de_rl a o) (nI o) c2 (by omega)
        exact ⟨r, f, fun post h => de_xf hk ho (by omega) (fun z => absurd z e) (fun _ => hX post h), fun post h => de_yk hk ho (fun z => absurd z e) (fun _ => hY post h)⟩
def de_PC (a : Nat → Int32) (S : Nat → Prop) (o : Nat) (p : Int32) : Prop :=
  (o = 0 ∧ p = -1) ∨ (∃ q : Nat, S q ∧ q + de_rl a q = o ∧ q < 125 ∧ p = nI q)
theorem de_remove {a : Nat → Int32} {S : Nat → Prop} (H : de_Ok a S) {k : Nat} (hk : k < 256) : ∀ (d o : Nat) (p : Int32), S o → de_PC a S o p → 128 - o < d →
    (∃ f : Int32, (∀ post : Int32 → SX → Prop, post (-1) a → wX_remove_18 post (nI k) a d p (nI o)) ∧
      (∀ post : Int32 → SY → Prop, post (-1) (f, a) → wY_walk_7 post (nI k) 0 a d (nI o) p)) ∨
    (∃ (o' : Nat) (p' : Int32), S o' ∧ o' < 125 ∧ de_PC a S o' p' ∧
      (∀ post : Int32 → SX → Prop, de_hit post a p' o' → wX_remove_18 post (nI k) a d p (nI o)) ∧
      (∀ post : Int32 → SY → Prop, post (nI o') (p', a) → wY_walk_7 post (nI k) 0 a d (nI o) p)) := by
  intro d
  induction d with
  | zero => intro o p _ _ h; omega
  | succ d ih =>
    intro o p hS hP hd
    have m := H.2.1 o hS
    by_cases z : o = 128
    · subst z
      exact Or.inl ⟨p, fun post h => de_xr0 h, fun post h => de_y0 h⟩
    · have ho : o < 125 := by omega
      obtain ⟨c1, c2, c3⟩ := H.2.2.1 o hS (by omega)
      by_cases e : de_lb (a o) = k
      · exact Or.inr ⟨o, p, hS, ho, hP, fun post h => de_xr hk ho (by omega) (fun _ => h) (fun z => absurd e z), fun post h => de_yk hk ho (fun _ => h) (fun z => absurd e z)⟩
      · rcases ih (o + de_rl a o) (nI o) c2 (Or.inr ⟨o, hS, rfl, ho, rfl⟩) (by omega) with ⟨f, hX, hY⟩ | ⟨o', p', g1, g2, g3, hX, hY⟩
        · exact Or.inl ⟨f, fun post h => de_xr hk ho (by omega) (fun z => absurd z e) (fun _ => hX post h), fun post h => de_yk hk ho (fun z => absurd z e) (fun _ => hY post h)⟩
        · exact Or.inr ⟨o', p', g1, g2, g3, fun post h => de_xr hk ho (by omega) (fun z => absurd z e) (fun _ => hX post h), fun post h => de_yk hk ho (fun z => absurd z e) (fun _ => hY post h)⟩
theorem de_adds {a : Nat → Int32} {S : Nat → Prop} (H : de_Ok a S) {m : Nat} (hm : m < 1024) (h0 : 0 < m) (x1 x2 : Int32) : ∀ (d o : Nat) (p : Int32), S o → 128 - o < d →
    (∃ f : Int32, (∀ post : Int32 → SX → Prop, post (-1) a → wX_add_36 post x1 x2 (nI m) a d (nI o)) ∧
      (∀ post : Int32 → SY → Prop, post (-1) (f, a) → wY_walk_7 post 0 (nI m) a d (nI o) p)) ∨
    (∃ (o' : Nat) (f : Int32), S o' ∧ o' < 125 ∧ m ≤ de_rl a o' - de_us a o' ∧
      (∀ post : Int32 → SX → Prop, de_ahit post x1 x2 a o' → wX_add_36 post x1 x2 (nI m) a d (nI o)) ∧
      (∀ post : Int32 → SY → Prop, post (nI o') (f, a) → wY_walk_7 post 0 (nI m) a d (nI o) p)) := by
  intro d
  induction d with
  | zero => intro o p _ h; omega
  | succ d ih =>
    intro o p hS hd
    have mm := H.2.1 o hS
    by_cases z : o = 128
    · subst z
      exact Or.inl ⟨p, fun post h => de_xa0 h, fun post h => de_y0 h⟩
    · have ho : o < 125 := by omega
      obtain ⟨c1, c2, c3⟩ := H.2.2.1 o hS (by omega)
      by_cases e : m ≤ de_rl a o - de_us a o
      · exact Or.inr ⟨o, p, hS, ho, e, fun post h => de_xa ho hm (by omega) c3 (fun _ => h) (fun z => absurd e (by omega)), fun post h => de_yn ho hm h0 c3 (fun _ => h) (fun z => absurd e (by omega))⟩
      · rcases ih (o + de_rl a o) (nI o) c2 (by omega) with ⟨f, hX, hY⟩ | ⟨o', p', g1, g2, g3, hX, hY⟩
        · exact Or.inl ⟨f, fun post h => de_xa ho hm (by omega) c3 (fun z => absurd z e) (fun _ => hX post h), fun post h => de_yn ho hm h0 c3 (fun z => absurd z e) (fun _ => hY post h)⟩
        · exact Or.inr ⟨o', p', g1, g2, g3, fun post h => de_xa ho hm (by omega) c3 (fun z => absurd z e) (fun _ => hX post h), fun post h => de_yn ho hm h0 c3 (fun z => absurd z e) (fun _ => hY post h)⟩
end
section
/-! what is owed -/
theorem de_y120 {post : Int32 → SY → Prop} {x1 x2 f : Int32} {n : Nat} {a : Nat → Int32} (hn : n < 125)
    (h : post (nI n) (f, upd (upd a n x1.toInt8.toInt32) (n + 2) x2.toInt8.toInt32)) : wY_add_120 post x1 x2 (nI n) f a := by
  unfold wY_add_120
  rw [de_a2, nI_clamp (by omega), nI_clamp (by omega), pk_vb, pk_vb]
  exact ⟨vp_in_nI (by omega) (by omega), nm_e ⟨vp_in_nI (by omega) (by omega), nm_e h⟩⟩
/-- both blocks hold the same bytes, and the records are a chain from 0 to 128 -/
def i_Rel (_ : Nat) (u : SX) (v : SY) : Prop := v.2 = u ∧ ∃ S, de_Ok u S
theorem i_up {k : Nat} {u : SX} {v : SY} (h : i_Rel k u v) : i_Rel (k + 3) u v := h
theorem i_vc0 : wpX_init (fun u => wpY_init (fun v => i_Rel 0 u v)) := by
  intro u eu v ev
  subst eu ev
  exact ⟨rfl, de_ok0⟩
theorem i_vc_byteAt {k : Nat} {u : SX} {v : SY} (I : i_Rel k u v) (hk : k + 3 ≤ 1536) (v1 : Int32) : wpX_byteAt (fun r => wpY_byteAt (fun r' => r' = r ∧ i_Rel (k + 3) u v) v v1) u v1 := by
  obtain ⟨f, b⟩ := v
  obtain ⟨e, S, H⟩ := I
  have e : b = u := e
  subst e
  have hi : vp_in (v1 &&& 127) 128 := pk_andIn v1 7 (by decide) (by decide)
  exact And.intro hi (And.intro hi ⟨rfl, rfl, S, H⟩)
theorem i_vc_find {k : Nat} {u : SX} {v : SY} (I : i_Rel k u v) (hk : k + 3 ≤ 1536) (v1 : Int32) : wpX_find (fun r => wpY_find (fun r' v' => r' = r ∧ i_Rel (k + 3) u v') v v1) u v1 := by
  obtain ⟨f, b⟩ := v
  obtain ⟨e, S, H⟩ := I
  have e : b = u := e
  subst e
  have hb := de_lb_lt v1
  unfold wpX_find
  refine nm_r (de_and v1) (pk_eq (de_lb v1) 0 (fun z => ?_) (fun z => ?_))
  · unfold wpY_find
    exact nm_r (de_and v1) (br_t (congrArg nI z) ⟨rfl, rfl, S, H⟩)
  · obtain ⟨r, f', hX, hY⟩ := de_find H hb 129 0 (-1) H.1 (by decide)
    refine ⟨129, hX _ ?_⟩
    unfold wpY_find
    exact nm_r (de_and v1) (br_f (nI_ne0 (by omega) (by omega)) (Exists.intro 129 (hY _ ⟨rfl, rfl, S, H⟩)))
theorem i_vc_remove {k : Nat} {u : SX} {v : SY} (I : i_Rel k u v) (hk : k + 3 ≤ 1536) (v1 : Int32) : wpX_remove (fun r u' => wpY_remove (fun r' v' => r' = r ∧ i_Rel (k + 3) u' v') v v1) u v1 := by
  obtain ⟨f, b⟩ := v
  obtain ⟨e, S, H⟩ := I
  have e : b = u := e
  subst e
  have hb := de_lb_lt v1
  unfold wpX_remove
  refine nm_r (de_and v1) (pk_eq (de_lb v1) 0 (fun z => ?_) (fun z => ?_))
  · unfold wpY_remove
    exact nm_r (de_and v1) (br_t (congrArg nI z) ⟨rfl, rfl, S, H⟩)
  · have hk0 : ¬ nI (de_lb v1) = 0 := nI_ne0 (by omega) (by omega)
    rcases de_remove H hb 129 0 (-1) H.1 (Or.inl ⟨rfl, rfl⟩) (by decide) with ⟨f', hX, hY⟩ | ⟨o, p, g1, g2, g3, hX, hY⟩
    · refine ⟨129, hX _ ?_⟩
      unfold wpY_remove
      refine nm_r (de_and v1) (br_f hk0 (Exists.intro 129 (hY _ ?_)))
      exact br_f (by decide) ⟨rfl, rfl, S, H⟩
    · refine ⟨129, hX _ ?_⟩
      rcases g3 with ⟨rfl, rfl⟩ | ⟨q, q1, q2, q3, rfl⟩
      · refine ⟨fun _ => ?_, fun z => absurd rfl z⟩
        unfold wpY_remove
        refine nm_r (de_and v1) (br_f hk0 (Exists.intro 129 (hY _ ?_)))
        refine br_t (by decide) (br_f (by decide) ?_)
        rw [nI_1 0, nI_clamp (by decide), nI_clamp (by decide)]
        refine ⟨vp_in_nI (by decide) (by decide), nm_e ⟨vp_in_nI (by decide) (by decide), ?_, rfl, S, de_okF H⟩⟩
        rw [pk_un (by decide), de_and]
        rfl
      · have c1 := (H.2.2.1 q q1 (by omega)).1
        refine ⟨fun z => absurd z (by omega), fun _ => ⟨q, q3, rfl, ?_⟩⟩
        have b1 := de_rl_lt b q
        have b2 := de_rl_lt b o
        have e8 : (b (q + 1) + b (o + 1)).toInt8.toInt32 = (nI (de_rl b q + de_rl b o)).toInt8.toInt32 := by
          refine de_eq8 ?_
          rw [de_add, de_lbN (by omega)]
          rfl
        have M := de_okM H g1 (by omega) q1 q2 (nI (de_rl b q + de_rl b o)).toInt8.toInt32 (by rw [de_cast, de_lbN (by omega)])
        unfold wpY_remove
        refine nm_r (de_and v1) (br_f hk0 (Exists.intro 129 (hY _ ?_)))
        refine br_t (nI_pos' (by omega)) (br_t (nI_pos' (by omega)) ?_)
        rw [nI_1 q, nI_1 o, nI_clamp (by omega), nI_clamp (by omega), pk_vb, e8]
        exact ⟨vp_in_nI (by omega) (by omega), vp_in_nI (by omega) (by omega), vp_in_nI (by omega) (by omega), nm_e ⟨rfl, rfl, M⟩⟩
theorem i_vc_add {k : Nat} {u : SX} {v : SY} (I : i_Rel k u v) (hk : k + 3 ≤ 1536) (v1 : Int32) (v2 : Int32) : wpX_add (fun r u' => wpY_add (fun r' v' => r' = r ∧ i_Rel (k + 3) u' v') v v1 v2) u v1 v2 := by
  obtain ⟨f, b⟩ := v
  obtain ⟨e, S, H⟩ := I
  have e : b = u := e
  subst e
  have hb := de_lb_lt v1
  unfold wpX_add
  refine nm_r (de_and v1) (pk_eq (de_lb v1) 0 (fun z => ?_) (fun z => ?_))
  · have z' : v1 &&& 255 = 0 := by rw [de_and, z]; rfl
    unfold wpY_add
    exact br_t z' ⟨rfl, rfl, S, H⟩
  have z' : ¬ v1 &&& 255 = 0 := by rw [de_and]; exact nI_ne0 (by omega) (by omega)
  refine br_c (fun n0 => ?_) (fun n0 => br_c (fun n1 => ?_) (fun n1 => ?_))
  · unfold wpY_add
    exact br_f z' (br_t n0 ⟨rfl, rfl, S, H⟩)
  · obtain ⟨m, hm, rfl⟩ := nI_of2 (M := 255) (n := 255) (by decide) n0 n1
    have u1 := de_up4_lt (m := m) (by omega)
    have u2 := de_up4_ge m
    have u3 : de_lb (nI m).toInt8.toInt32 = m := by rw [de_cast, de_lbN (by omega)]; omega
    have u4 : (7 + nI m) &&& (-4) = nI (de_up4 m) := de_up m (by omega)
    refine nm_r u4 ?_
    rcases de_adds H (m := de_up4 m) (by omega) (by omega) v1 (nI m) 129 0 (-1) H.1 (by decide) with ⟨f', hX, hY⟩ | ⟨o, f', g1, g2, g3, hX, hY⟩
    · refine ⟨129, hX _ ?_⟩
      unfold wpY_add
      rw [u4]
      exact br_f z' (br_f n0 (br_t n1 (Exists.intro 129 (hY _ (br_f (by decide) ⟨rfl, rfl, S, H⟩)))))
    · refine ⟨129, hX _ ⟨fun a0 => ?_, fun a0 => ?_⟩⟩
      · unfold wpY_add
        rw [u4]
        refine br_f z' (br_f n0 (br_t n1 (Exists.intro 129 (hY _ ?_))))
        refine br_t (nI_pos' (by omega)) ⟨vp_in_nI (by omega) (by omega), ?_⟩
        rw [nI_clamp (by omega)]
        refine br_t a0 (de_y120 (by omega) ⟨rfl, rfl, S, de_okP H g1 (by omega) _ _ ?_⟩)
        rw [u3]
        omega
      · obtain ⟨c1, c2, c3⟩ := H.2.2.1 o g1 (by omega)
        have c4 := (H.2.1 _ c2).2
        have c5 := (H.2.1 o g1).1
        have c6 := de_us_mod b o
        have c7 := de_rl_lt b o
        have c8 : 4 ≤ de_us b o := by rw [de_us1 a0]; exact de_up4_ge _
        have hn : o + de_us b o < 125 := by omega
        have e8 : (b (o + 1) - nI (de_rl b o - de_us b o)).toInt8.toInt32 = (nI (de_us b o)).toInt8.toInt32 := by
          refine de_eq8 ?_
          have d : de_lb (b (o + 1)) = de_rl b o := rfl
          rw [de_sub _ (by omega), de_lbN (by omega), d]
          omega
        have e9 : (nI o + nI (de_us b o)) &&& 124 = nI (o + de_us b o) := by
          have d := de_124 ((o + de_us b o) / 4) (by omega)
          have d2 : 4 * ((o + de_us b o) / 4) = o + de_us b o := by omega
          rw [d2] at d
          rw [nI_add]
          exact d
        have M := de_okS H g1 (by omega) a0 rfl (nI (de_rl b o - de_us b o)).toInt8.toInt32 (nI (de_us b o)).toInt8.toInt32 v1.toInt8.toInt32 (nI m).toInt8.toInt32
          (by rw [de_cast, de_lbN (by omega)]; omega) (by rw [de_cast, de_lbN (by omega)]; omega) (by rw [u3]; exact g3)
        refine ⟨hn, ?_⟩
        unfold wpY_add
        rw [u4]
        refine br_f z' (br_f n0 (br_t n1 (Exists.intro 129 (hY _ ?_))))
        refine br_t (nI_pos' (by omega)) ⟨vp_in_nI (by omega) (by omega), ?_⟩
        rw [nI_1 o, de_a2 o, nI_clamp (n := o) (by omega), nI_clamp (n := o + 1) (by omega), nI_clamp (n := o + 2) (by omega)]
        refine br_f a0 ?_
        rw [de_and (b (o + 2)), de_and (b (o + 1)), de_up _ (de_lb_lt _), ← de_us1 a0]
        refine ⟨vp_in_nI (by omega) (by omega), nm_e ⟨vp_in_nI (by omega) (by omega), nm_r (e' := nI (de_rl b o - de_us b o)) (pk_sub c3) ?_⟩⟩
        rw [pk_vb, e8]
        refine ⟨vp_in_nI (by omega) (by omega), vp_in_nI (by omega) (by omega), nm_e (nm_r e9 ?_)⟩
        rw [nI_1 (o + de_us b o), nI_clamp (n := o + de_us b o + 1) (by omega), pk_vb]
        refine ⟨vp_in_nI (by omega) (by omega), nm_e (de_y120 hn ⟨rfl, ?_, M⟩)⟩
        show upd (upd (upd (upd b (o + 1) _) (o + de_us b o + 1) _) (o + de_us b o) _) (o + de_us b o + 2) _ = _
        rw [de_uc (i := o + 1) (j := o + de_us b o + 1) (by omega)]
  · unfold wpY_add
    exact br_f z' (br_f n0 (br_f n1 ⟨rfl, rfl, S, H⟩))
end
