section
/-- the units of a code -/
def sd_u (c : Nat) : Nat := if c / 64 = 0 then c % 64 else (64 + c % 64) * 2 ^ (c / 64 - 1)
/-- the border above a code, in steps -/
def sd_b (c : Nat) : Nat := (sd_u c + sd_u (c + 1)) * 1000000000000
/-- the code that the law makes out of k, whose highest bit is h -/
def sd_c (h k : Nat) : Nat := 64 + 64 * h + (k - 2 ^ h) * (64 / 2 ^ h)
theorem sd_uv : ∀ c, c < 1024 → (if (nI c >>> ((6 : Int32) &&& 31)) = 0 then (nI c &&& 63) else ((64 + (nI c &&& 63)) <<< (((nI c >>> ((6 : Int32) &&& 31)) - 1) &&& 31))) = nI (sd_u c) := by decide +kernel
theorem sd_us : ∀ c, c < 1023 → sd_u c < sd_u (c + 1) := by decide +kernel
theorem sd_ul : ∀ c, c < 1024 → sd_u c < 2080769 := by decide +kernel
def sd_ok (h k : Nat) : Bool := decide (((64 : Int32) + 64 * nI h) + ((nI k - ((1 : Int32) <<< (nI h &&& 31))) * ((64 : Int32) >>> (nI h &&& 31))) = nI (sd_c h k)) && decide (0 < sd_c h k) && decide (sd_c h k < 512) && decide (sd_u (sd_c h k) = 64 * k)
theorem sd_cw : ∀ h, h < 7 → ∀ k, k < 128 → (decide (k < 2 ^ h) || decide (2 ^ (h + 1) ≤ k) || sd_ok h k) = true := by decide +kernel
theorem sd_cv (h : Nat) (hh : h < 7) (k : Nat) (hk : k < 128) (h1 : 2 ^ h ≤ k) (h2 : k < 2 ^ (h + 1)) : ((64 : Int32) + 64 * nI h) + ((nI k - ((1 : Int32) <<< (nI h &&& 31))) * ((64 : Int32) >>> (nI h &&& 31))) = nI (sd_c h k) ∧ 0 < sd_c h k ∧ sd_c h k < 512 ∧ sd_u (sd_c h k) = 64 * k := by
  have e := sd_cw h hh k hk
  rw [decide_eq_false (show ¬ k < 2 ^ h by omega), decide_eq_false (show ¬ 2 ^ (h + 1) ≤ k by omega), Bool.false_or, Bool.false_or, sd_ok, Bool.and_eq_true, Bool.and_eq_true, Bool.and_eq_true] at e
  exact ⟨of_decide_eq_true e.1.1.1, of_decide_eq_true e.1.1.2, of_decide_eq_true e.1.2, of_decide_eq_true e.2⟩
theorem sd_bl (c : Nat) (h : c < 1023) : sd_b c < 2 ^ 63 := by
  have h1 := sd_ul c (by omega)
  have h2 := sd_ul (c + 1) (by omega)
  unfold sd_b
  omega
theorem sd_bm (a : Nat) : ∀ b, a ≤ b → b < 1023 → sd_b a ≤ sd_b b := by
  intro b
  induction b with
  | zero =>
    intro h _
    have e : a = 0 := by omega
    rw [e]
    exact Nat.le_refl _
  | succ b ih =>
    intro h hb
    by_cases e : a = b + 1
    · rw [e]
      exact Nat.le_refl _
    · have h1 := ih (by omega) (by omega)
      have h2 := sd_us b (by omega)
      have h3 := sd_us (b + 1) (by omega)
      have h4 : sd_b b ≤ sd_b (b + 1) := by
        unfold sd_b
        omega
      exact Nat.le_trans h1 h4
/-- where a number of steps has a code for its nearest: between the border below it and the border above it -/
def sd_at (n t : Nat) : Prop := n < 2 ^ 63 ∧ t ≤ 1023 ∧ (∀ m, m < t → sd_b m < n) ∧ (∀ m, t ≤ m → m < 1023 → n < sd_b m)
theorem sd_at_in {n t : Nat} (hn : n < 2 ^ 63) (h0 : 0 < t) (ht : t < 1023) (h1 : sd_b (t - 1) < n) (h2 : n < sd_b t) : sd_at n t :=
  ⟨hn, by omega, fun m hm => Nat.lt_of_le_of_lt (sd_bm m (t - 1) (by omega) (by omega)) h1, fun m hm hx => Nat.lt_of_lt_of_le h2 (sd_bm t m hm hx)⟩
theorem sd_at_end {n : Nat} (hn : n < 2 ^ 63) (h1 : sd_b 1022 < n) : sd_at n 1023 :=
  ⟨hn, by omega, fun m hm => Nat.lt_of_le_of_lt (sd_bm m 1022 (by omega) (by omega)) h1, fun m hm hx => absurd hm (by omega)⟩
/-- the exact value, and a value little above it -/
theorem sd_at_off {c k e : Nat} (h0 : 0 < c) (hc : c < 512) (hu : sd_u c = 64 * k) (hk : k < 128) (he : e < 1000000000000) : sd_at (k * 128000000000000 + e) c := by
  have h1 := sd_us (c - 1) (by omega)
  have h2 := sd_us c (by omega)
  rw [show c - 1 + 1 = c by omega] at h1
  refine sd_at_in (by omega) h0 (by omega) ?_ ?_
  · unfold sd_b
    rw [show c - 1 + 1 = c by omega]
    omega
  · unfold sd_b
    omega
theorem sd_t10 (i : Nat) : lN (10 ^ i) * 10 = lN (10 ^ (i + 1)) := by
  show lN (10 ^ i) * lN 10 = lN (10 ^ (i + 1))
  rw [lN_mul, Nat.pow_succ]
end
section
theorem sd_unitsOf {post : Int32 → Prop} {f0 f1 f2 : Int32} {a : Nat → Int32} {c : Nat} {x : Int32} (hx : x = nI c) (hc : c < 1024) (h : post (nI (sd_u c))) : wpX_unitsOf post (f0, f1, f2, a) x := by
  subst hx
  have e := sd_uv c hc
  unfold wpX_unitsOf
  refine nm_e (nm_e (br_c (fun z => ?_) (fun z => ?_)))
  · rw [if_pos z] at e
    rw [e]
    exact h
  · rw [if_neg z] at e
    rw [e]
    exact h
theorem sd_border {post : Int64 → Prop} {f0 f1 f2 : Int32} {a : Nat → Int32} {m : Nat} {x : Int32} (hx : x = nI m) (hm : m < 1023) (h : post (lN (sd_b m))) : wpX_borderAbove post (f0, f1, f2, a) x := by
  subst hx
  have h1 := sd_ul m (by omega)
  have h2 := sd_ul (m + 1) (by omega)
  have e : (nI (sd_u m) + nI (sd_u (m + 1))).toInt64 * 1000000000000 = lN (sd_b m) := by
    rw [nI_add, nI_l (by omega)]
    show lN (sd_u m + sd_u (m + 1)) * lN 1000000000000 = lN ((sd_u m + sd_u (m + 1)) * 1000000000000)
    exact lN_mul _ _
  unfold wpX_borderAbove
  refine sd_unitsOf (c := m) rfl (by omega) (sd_unitsOf (c := m + 1) (nI_1 m) (by omega) ?_)
  show post ((nI (sd_u m) + nI (sd_u (m + 1))).toInt64 * 1000000000000)
  rw [e]
  exact h
theorem sd_near {post : Int32 → Prop} {f0 f1 f2 : Int32} {a : Nat → Int32} {n t : Nat} (h : sd_at n t) (hp : post (nI t)) : ∀ j f i lo hi, j < f → lo ≤ t → t ≤ hi → hi ≤ 1023 → hi < lo + 2 ^ j → i + j ≤ 11 → wX_nearest_10 post (lN n) f0 f1 f2 a f (nI lo) (nI hi) (nI i) := by
  obtain ⟨hn, ht, h1, h2⟩ := h
  intro j
  induction j with
  | zero =>
    intro f i lo hi a0 a1 a2 a3 a4 a5
    obtain ⟨g, rfl⟩ : ∃ g, f = g + 1 := ⟨f - 1, by omega⟩
    rw [Nat.pow_zero] at a4
    have e : lo = t := by omega
    rw [e]
    exact pk_le 11 i (fun _ => hp) (fun _ => pk_le hi t (fun _ => hp) (fun z => absurd z (by omega)))
  | succ j ih =>
    intro f i lo hi a0 a1 a2 a3 a4 a5
    obtain ⟨g, rfl⟩ : ∃ g, f = g + 1 := ⟨f - 1, by omega⟩
    rw [Nat.pow_succ] at a4
    refine pk_le 11 i (fun z => absurd z (by omega)) (fun _ => pk_le hi lo (fun z => ?_) (fun z => ?_))
    · have e : lo = t := by omega
      rw [e]
      exact hp
    · have em : (nI lo + nI hi) >>> ((1 : Int32) &&& 31) = nI ((lo + hi) / 2) := by
        rw [nI_add]
        exact pk_shrN (by omega) _ 1 (by decide)
      have hb := sd_bl ((lo + hi) / 2) (by omega)
      refine nm_r em (sd_border (m := (lo + hi) / 2) rfl (by omega) ?_)
      by_cases q : (lo + hi) / 2 < t
      · refine br_t ((pk_lLT hb hn).mpr (h1 _ q)) ?_
        exact br_f (by decide) (nm_r (nI_1 _) (nm_r (nI_1 i) (ih g (i + 1) ((lo + hi) / 2 + 1) hi (by omega) (by omega) (by omega) (by omega) (by omega) (by omega))))
      · have hq := h2 ((lo + hi) / 2) (by omega) (by omega)
        refine br_f (fun z' => absurd ((pk_lLT hb hn).mp z') (by omega)) (br_f (fun z' => absurd ((pk_lEQ hn hb).mp z') (by omega)) ?_)
        exact br_t rfl (nm_r (nI_1 i) (ih g (i + 1) lo ((lo + hi) / 2) (by omega) (by omega) (by omega) (by omega) (by omega) (by omega)))
theorem sd_nearest {post : Int32 → Prop} {f0 f1 f2 : Int32} {a : Nat → Int32} {n t : Nat} {x : Int64} (hx : x = lN n) (h : sd_at n t) (hp : post (nI t)) : wpX_nearest post (f0, f1, f2, a) x := by
  subst hx
  have ht := h.2.1
  unfold wpX_nearest
  exact Exists.intro 11 (sd_near h hp 10 11 0 0 1023 (by omega) (by omega) ht (by omega) (by decide) (by omega))
theorem sd_ten {post : Int64 → Prop} {f0 f1 f2 : Int32} {a : Nat → Int32} {p : Nat} {x : Int32} (hx : x = nI p) (hp : p < 19) (H : post (lN (10 ^ p))) : wpX_tenTo post (f0, f1, f2, a) x := by
  subst hx
  unfold wpX_tenTo
  exact pk_loop (fun n i s => wX_tenTo_5 post (nI p) f0 f1 f2 a n s (nI i)) (fun i s => s = lN (10 ^ i)) p 0 1 (by omega) rfl
    (fun n s h => pk_le p p (fun _ => by rw [h]; exact H) (fun z => absurd z (by omega)))
    (fun n i s hi h hw => pk_le p i (fun z => absurd z (by omega)) (fun _ => nm_e (nm_r (nI_1 i) (hw _ (by rw [h]; exact sd_t10 i)))))
/-- the steps of a decimal with places behind the point -/
theorem sd_sneg {post : Int64 → Prop} {f0 f1 f2 : Int32} {a : Nat → Int32} {D j l : Nat} {d q : Int32} (hd : d = nI D) (hq : q < 0) (h1 : -q = nI j) (h2 : 12 + q = nI l) (hj : j < 13) (hl : l < 13) (hD : D < 100000000) (hE : D / 10 ^ j ≤ 8000) (H : post (lN (D * (1024 * 10 ^ l)))) : wpX_stepsOf post (f0, f1, f2, a) d q := by
  subst hd
  have hp : 0 < 10 ^ j := Nat.pow_pos (by decide)
  have hpl : 10 ^ j < 2 ^ 63 := Nat.lt_of_le_of_lt (Nat.pow_le_pow_right (by decide) (show j ≤ 12 by omega)) (by decide)
  have e1 : (nI D).toInt64 = lN D := nI_l (by omega)
  have e : (nI D).toInt64 * (1024 * lN (10 ^ l)) = lN (D * (1024 * 10 ^ l)) := by
    rw [e1]
    show lN D * (lN 1024 * lN (10 ^ l)) = lN (D * (1024 * 10 ^ l))
    rw [lN_mul, lN_mul]
  have e2 : (nI D).toInt64 / lN (10 ^ j) ≤ 8000 := by
    rw [e1, pk_lDiv (by omega) hp hpl]
    exact (pk_lLE (b := 8000) (Nat.lt_of_le_of_lt hE (by decide)) (by decide)).mpr hE
  have e3 : ¬ lN (10 ^ j) = 0 := by
    intro z
    have z' : 10 ^ j = 0 := (pk_lEQ (b := 0) hpl (by decide)).mp z
    omega
  unfold wpX_stepsOf
  refine br_t hq (sd_ten h1 (by omega) ⟨e3, br_t e2 (sd_ten h2 (by omega) ?_)⟩)
  show post ((nI D).toInt64 * (1024 * lN (10 ^ l)))
  rw [e]
  exact H
/-- the steps of a decimal without -/
theorem sd_spos {post : Int64 → Prop} {f0 f1 f2 : Int32} {a : Nat → Int32} {D j : Nat} {d q : Int32} (hd : d = nI D) (hq : ¬ q < 0) (h1 : q = nI j) (hj : j < 7) (hD : D < 100000000) (H1 : D * 10 ^ j ≤ 8000 → post (lN (D * 10 ^ j * 1024 * 1000000000000))) (H2 : 8000 < D * 10 ^ j → post 9000000000000000000) : wpX_stepsOf post (f0, f1, f2, a) d q := by
  subst hd
  have hpl : 10 ^ j ≤ 10 ^ 6 := Nat.pow_le_pow_right (by decide) (by omega)
  have hb : D * 10 ^ j < 2 ^ 63 := Nat.lt_of_le_of_lt (Nat.mul_le_mul (show D ≤ 100000000 by omega) hpl) (by decide)
  have e : (nI D).toInt64 * lN (10 ^ j) = lN (D * 10 ^ j) := by
    rw [nI_l (by omega), lN_mul]
  unfold wpX_stepsOf
  refine br_f hq (sd_ten h1 (by omega) (nm_r e (ek_if (pk_lLE (b := 8000) hb (by decide)) (fun z => ?_) (fun z => H2 (by omega)))))
  show post (lN (D * 10 ^ j) * lN 1024 * lN 1000000000000)
  rw [lN_mul, lN_mul]
  exact H1 z
theorem sd_badD {post : Int32 → Prop} {f0 f1 f2 : Int32} {a : Nat → Int32} {D : Nat} {d q : Int32} (hd : d = nI D) (hD : D < 100000000) (h1 : ¬ q < (-12)) (h2 : q ≤ 6) (H : post 0) : wpX_badDecimal post (f0, f1, f2, a) d q := by
  unfold wpX_badDecimal
  exact pk_lt D 0 (fun z => absurd z (by omega)) (fun _ => pk_lt 99999999 D (fun z => absurd z (by omega)) (fun _ => br_f h1 (br_t h2 H)) rfl hd) hd
theorem sd_badC {post : Int32 → Prop} {f0 f1 f2 : Int32} {a : Nat → Int32} {c : Nat} {x : Int32} (hx : x = nI c) (hc : c < 1024) (H : post 0) : wpX_badCode post (f0, f1, f2, a) x := by
  unfold wpX_badCode
  exact pk_lt c 0 (fun z => absurd z (by omega)) (fun _ => pk_lt c 1024 (fun _ => H) (fun z => absurd z (by omega)) hx) hx
theorem sd_readN {post : Int32 → Prop} {f0 f1 f2 : Int32} {a : Nat → Int32} {D j l t : Nat} {d q : Int32} (hd : d = nI D) (hq : q < 0) (hq1 : ¬ q < (-12)) (hq2 : q ≤ 6) (h1 : -q = nI j) (h2 : 12 + q = nI l) (hj : j < 13) (hl : l < 13) (hD : D < 100000000) (hE : D / 10 ^ j ≤ 8000) (h : sd_at (D * (1024 * 10 ^ l)) t) (H : post (nI t)) : wpX_read post (f0, f1, f2, a) d q := by
  unfold wpX_read
  exact sd_badD hd hD hq1 hq2 (br_t rfl (sd_sneg hd hq h1 h2 hj hl hD hE (sd_nearest rfl h H)))
theorem sd_units {post : Int32 → Prop} {f0 f1 f2 : Int32} {a : Nat → Int32} {c : Nat} {x : Int32} (hx : x = nI c) (hc : c < 1024) (H : post (nI (sd_u c))) : wpX_units post (f0, f1, f2, a) x := by
  unfold wpX_units
  exact sd_badC hx hc (br_t rfl (sd_unitsOf hx hc H))
theorem sd_cmp {post : Int32 → Prop} {f0 f1 f2 : Int32} {a : Nat → Int32} {D j l c : Nat} {d q x : Int32} (hx : x = nI c) (hc : c < 1024) (hd : d = nI D) (hq : q < 0) (hq1 : ¬ q < (-12)) (hq2 : q ≤ 6) (h1 : -q = nI j) (h2 : 12 + q = nI l) (hj : j < 13) (hl : l < 13) (hD : D < 100000000) (hE : D / 10 ^ j ≤ 8000) (hn : D * (1024 * 10 ^ l) < 2 ^ 63)
    (H0 : sd_u c * 2000000000000 = D * (1024 * 10 ^ l) → post 0) (H1 : sd_u c * 2000000000000 < D * (1024 * 10 ^ l) → post (-1)) (H2 : D * (1024 * 10 ^ l) < sd_u c * 2000000000000 → post 1) : wpX_compare post (f0, f1, f2, a) x d q := by
  have hu := sd_ul c hc
  have hv : sd_u c * 2000000000000 < 2 ^ 63 := by omega
  have e : (nI (sd_u c)).toInt64 * 2000000000000 = lN (sd_u c * 2000000000000) := by
    rw [nI_l (by omega)]
    exact lN_mul _ 2000000000000
  unfold wpX_compare
  refine sd_badC hx hc (br_t rfl (sd_badD hd hD hq1 hq2 (br_t rfl ?_)))
  unfold wpX_steps
  refine sd_unitsOf hx hc ?_
  dsimp only
  rw [e]
  refine sd_sneg hd hq h1 h2 hj hl hD hE ?_
  refine ek_if (pk_lEQ hv hn) H0 (fun z => ek_if (pk_lLE hn hv) (fun z1 => H2 (by omega)) (fun z1 => H1 (by omega)))
theorem sd_names {post : Int32 → Prop} {f0 f1 f2 : Int32} {a : Nat → Int32} {D j l c : Nat} {d q x : Int32} (hx : x = nI c) (hc : c < 1024) (hd : d = nI D) (hq : q < 0) (hq1 : ¬ q < (-12)) (hq2 : q ≤ 6) (h1 : -q = nI j) (h2 : 12 + q = nI l) (hj : j < 13) (hl : l < 13) (hD : D < 100000000) (hE : D / 10 ^ j ≤ 8000) (h : sd_at (D * (1024 * 10 ^ l)) c) (hn : D * (1024 * 10 ^ l) < 4177920000000000000) (H : post 1) : wpX_names post (f0, f1, f2, a) x d q := by
  have e : ¬ (4177920000000000000 : Int64) ≤ lN (D * (1024 * 10 ^ l)) := fun z => absurd ((pk_lLE (a := 4177920000000000000) (by decide) h.1).mp z) (by omega)
  unfold wpX_names
  refine sd_badC hx hc (br_t rfl (sd_badD hd hD hq1 hq2 (br_t rfl (sd_sneg hd hq h1 h2 hj hl hD hE ?_))))
  unfold wpX_named
  exact br_f e (sd_nearest rfl h (br_t hx.symm ⟨narrow_b1, H⟩))
end
section
theorem sd_great {post : Int32 → Prop} {f0 f1 f2 : Int32} {a : Nat → Int32} (H : post 1023) : wpX_read post (f0, f1, f2, a) 4079 0 := by
  unfold wpX_read
  exact sd_badD (D := 4079) rfl (by decide) (by decide) (by decide) (br_t rfl (sd_spos (D := 4079) (j := 0) rfl (by decide) rfl (by decide) (by decide) (fun _ => sd_nearest rfl (sd_at_end (by decide) (by decide)) H) (fun z => absurd z (by decide))))
theorem sd_none {post : Int32 → Prop} {f0 f1 f2 : Int32} {a : Nat → Int32} (H : post 0) : wpX_names post (f0, f1, f2, a) 1023 4080 0 := by
  unfold wpX_names
  refine sd_badC (c := 1023) rfl (by decide) (br_t rfl (sd_badD (D := 4080) rfl (by decide) (by decide) (by decide) (br_t rfl (sd_spos (D := 4080) (j := 0) rfl (by decide) rfl (by decide) (by decide) (fun _ => ?_) (fun z => absurd z (by decide))))))
  unfold wpX_named
  exact br_t ((pk_lLE (a := 4177920000000000000) (by decide) (by decide)).mpr (by decide)) ⟨narrow_b0, H⟩
theorem sd_more {post : Int32 → Prop} {f0 f1 f2 : Int32} {a : Nat → Int32} (H : post 1023) : wpX_read post (f0, f1, f2, a) 99999999 6 := by
  unfold wpX_read
  exact sd_badD (D := 99999999) rfl (by decide) (by decide) (by decide) (br_t rfl (sd_spos (D := 99999999) (j := 6) rfl (by decide) rfl (by decide) (by decide) (fun z => absurd z (by decide)) (fun _ => sd_nearest (n := 9000000000000000000) rfl (sd_at_end (by decide) (by decide)) H)))
theorem sd_78 {mc ms kc ks : Nat} {f0 f1 f2 : Int32} {a : Nat → Int32} {z : Int32} (h k : Nat) (hh : h < 7) (hk : k < 128) (h1 : 2 ^ h ≤ k) (h2 : k < 2 ^ (h + 1)) (hz : z = nI h := by rfl) : wL_lawOf_78 (fun r _ => r = 1) mc ms (nI k) z kc ks f0 f1 f2 a := by
  subst hz
  obtain ⟨ec, c0, c1, eu⟩ := sd_cv h hh k hk h1 h2
  have hpos : 0 < 2 ^ h := Nat.pow_pos (by decide)
  generalize sd_c h k = c at ec c0 c1 eu
  have n1 : 125 * k * (1024 * 10 ^ 9) = k * 128000000000000 + 0 := by omega
  have n2 : (1250 * k + 1) * (1024 * 10 ^ 8) = k * 128000000000000 + 102400000000 := by
    rw [show 1024 * 10 ^ 8 = 102400000000 by decide, Nat.add_mul, Nat.one_mul, Nat.mul_comm 1250 k, Nat.mul_assoc, show 1250 * 102400000000 = 128000000000000 by decide]
  have d1 : (125 : Int32) * nI k = nI (125 * k) := pk_mul 125 k
  have d2 : (1250 : Int32) * nI k + 1 = nI (1250 * k + 1) := by
    rw [show (1250 : Int32) * nI k = nI (1250 * k) from pk_mul 1250 k]
    exact nI_1 _
  have s1 : sd_at (125 * k * (1024 * 10 ^ 9)) c := by
    rw [n1]
    exact sd_at_off c0 c1 eu hk (by decide)
  have s2 : sd_at ((1250 * k + 1) * (1024 * 10 ^ 8)) c := by
    rw [n2]
    exact sd_at_off c0 c1 eu hk (by decide)
  have u0 : sd_u 0 = 0 := by decide
  have eq64 : nI (sd_u c) = 64 * nI k := by
    rw [eu]
    exact (pk_mul 64 k).symm
  unfold wL_lawOf_78
  refine nm_r ec ?_
  refine sd_readN (D := 125 * k) (j := 3) (l := 9) (t := c) d1 (by decide) (by decide) (by decide) (by decide) (by decide) (by decide) (by decide) (by omega) (by omega) s1 ?_
  refine sd_cmp (c := c) (D := 125 * k) (j := 3) (l := 9) rfl (by omega) d1 (by decide) (by decide) (by decide) (by decide) (by decide) (by decide) (by decide) (by omega) (by omega) s1.1 (fun _ => ?_) (fun z => absurd z (by omega)) (fun z => absurd z (by omega))
  refine sd_names (c := c) (D := 125 * k) (j := 3) (l := 9) rfl (by omega) d1 (by decide) (by decide) (by decide) (by decide) (by decide) (by decide) (by decide) (by omega) (by omega) s1 (by omega) ?_
  refine sd_units (c := c) rfl (by omega) ?_
  refine sd_readN (D := 1250 * k + 1) (j := 4) (l := 8) (t := c) d2 (by decide) (by decide) (by decide) (by decide) (by decide) (by decide) (by decide) (by omega) (by omega) s2 ?_
  refine sd_cmp (c := 0) (D := 125 * k) (j := 3) (l := 9) rfl (by omega) d1 (by decide) (by decide) (by decide) (by decide) (by decide) (by decide) (by decide) (by omega) (by omega) s1.1 (fun z => absurd z (by omega)) (fun _ => ?_) (fun z => absurd z (by omega))
  refine sd_great (sd_none (sd_more ?_))
  exact br_t rfl (br_t rfl (br_f (by decide) (br_t eq64 (br_t rfl (br_t rfl (br_t rfl (br_t rfl (br_t rfl rfl))))))))
theorem sd_lawOf (x : Int32) : wpL_lawOf (fun r _ => r = 1) 12 176 () x := by
  obtain ⟨j, hj, ej⟩ := pk_andE x (m := 127) 7 (by decide)
  have hk : 1 + ((x &&& 127) - (x &&& 127) / 127 * 127) = nI (1 + j % 127) := by
    rw [ej, show nI j - nI j / 127 * 127 = nI (j % 127) from pk_rem (d := 127) (by omega) (by decide) (by decide)]
    exact nI_add 1 _
  have k1 : 1 ≤ 1 + j % 127 := by omega
  have k2 : 1 + j % 127 < 128 := by omega
  generalize 1 + j % 127 = k at hk k1 k2
  unfold wpL_lawOf
  refine ⟨by decide, by decide, 11, 172, by decide, by decide, ?_⟩
  unfold wpX_init
  refine ⟨by decide, by decide, by decide, nm_r hk ?_⟩
  exact pk_le k 63 (fun q6 => pk_le k 31 (fun q5 => pk_le k 15 (fun q4 => pk_le k 7 (fun q3 => pk_le k 3 (fun q2 => pk_le k 1
    (fun q1 => sd_78 0 k (by decide) k2 (show 1 ≤ k by omega) (show k < 2 by omega))
    (fun q1 => sd_78 1 k (by decide) k2 (show 2 ≤ k by omega) (show k < 4 by omega)))
    (fun q2 => sd_78 2 k (by decide) k2 (show 4 ≤ k by omega) (show k < 8 by omega)))
    (fun q3 => sd_78 3 k (by decide) k2 (show 8 ≤ k by omega) (show k < 16 by omega)))
    (fun q4 => sd_78 4 k (by decide) k2 (show 16 ≤ k by omega) (show k < 32 by omega)))
    (fun q5 => sd_78 5 k (by decide) k2 (show 32 ≤ k by omega) (show k < 64 by omega)))
    (fun q6 => sd_78 6 k (by decide) k2 (show 64 ≤ k by omega) (show k < 128 by omega))
theorem i_vc (xs : Nat → Int32) (L : Nat) (hL : L ≤ 1) : wpL_law (fun r => r = 1) L xs := by
  have key : ∀ r : Int32, ∃ mc ms : Nat, 0 + mc ≤ 12 ∧ 0 + ms ≤ 176 ∧ wpL_lawOf (fun r_2 _ => r_2 = 1) mc ms () r := fun r => ⟨12, 176, by decide, by decide, sd_lawOf r⟩
  unfold wpL_law wpL_cellAt
  refine br_c (fun _ => key 0) (fun z => ⟨?_, key _⟩)
  by_cases e : L = 0
  · subst e
    exact absurd (by decide) z
  · have e1 : L = 1 := by omega
    subst e1
    exact pk_in 0 1 (by decide)
end
