section
/-- a short's value, held in an int -/
def pg_S (x : Int32) : Prop := -32768 ≤ x.toInt ∧ x.toInt < 32768
/-- the run counter's range -/
def pg_R (x : Int32) : Prop := 0 ≤ x.toInt ∧ x.toInt ≤ 3
theorem pk_nb (z : Int32) : narrow .byte (.int z.toInt8.toInt32) = .int z.toInt8.toInt32 := congrArg Value.int (by simp)
theorem pk_ns (z : Int32) : narrow .short (.int z.toInt16.toInt32) = .int z.toInt16.toInt32 := congrArg Value.int (by simp)
theorem pk_fb (r : Int32) : fits .byte (.int r.toInt8.toInt32) = true := by
  have ⟨a, b⟩ := lg_i2b_range r
  have h1 : (-128 : Int32).toInt = -128 := by decide
  have h2 : (127 : Int32).toInt = 127 := by decide
  simp only [fits, Bool.and_eq_true, decide_eq_true_eq, Int32.le_iff_toInt_le, h1, h2]
  omega
theorem pk_fs (r : Int32) : fits .short (.int r.toInt16.toInt32) = true := by
  have ⟨a, b⟩ := lg_i2s_range r
  have h1 : (-32768 : Int32).toInt = -32768 := by decide
  have h2 : (32767 : Int32).toInt = 32767 := by decide
  simp only [fits, Bool.and_eq_true, decide_eq_true_eq, Int32.le_iff_toInt_le, h1, h2]
  omega
theorem pg_sS (x : Int32) : pg_S x.toInt16.toInt32 := lg_i2s_range x
theorem pg_s {x : Int32} (h : pg_S x) : x.toInt16.toInt32 = x := lg_i2s_small h.1 h.2
theorem pg_3 : (3 : Int32).toInt = 3 := by decide
theorem pg_R0 : pg_R 0 := ⟨by decide, by decide⟩
/-- one more, where the counter isn't 3 -/
theorem pg_inc {r : Int32} (h : pg_R r) (n : ¬ r = 3) : pg_R (r + 1) ∧ (r + 1).toInt8.toInt32 = r + 1 := by
  have h0 := h.1
  have h1 := h.2
  have o : (1 : Int32).toInt = 1 := by decide
  have n' : ¬ r.toInt = 3 := fun z => n (Int32.toInt_inj.mp (z.trans pg_3.symm))
  have e : (r + 1).toInt = r.toInt + 1 := by
    rw [Jvm.Kit.i32_add (by rw [o]; omega) (by rw [o]; omega), o]
  exact ⟨⟨by rw [e]; omega, by rw [e]; omega⟩, lg_i2b_small (by rw [e]; omega) (by rw [e]; omega)⟩
theorem pg_not3 {r : Int32} (d : ¬ 3 ≤ r) : ¬ r = 3 := fun z => d (z ▸ Int32.le_refl _)
/-- the raw value between the borders is a short -/
theorem pg_mid {lo hi p : Int32} (hl : pg_S lo) (hh : pg_S hi) (a : ¬ p < lo) (b : p ≤ hi) : pg_S p := by
  have a' := Int32.le_iff_toInt_le.mp (Int32.not_lt.mp a)
  have b' := Int32.le_iff_toInt_le.mp b
  have c := hl.1
  have d := hh.2
  exact ⟨by omega, by omega⟩
/-- the long difference and the int one are the same number -/
theorem pg_d {p g : Int32} (hp : pg_S p) (hg : pg_S g) : (p.toInt64 - g.toInt64).toInt = p.toInt - g.toInt ∧ (p - g).toInt = p.toInt - g.toInt := by
  have a := hp.1
  have b := hp.2
  have c := hg.1
  have d := hg.2
  refine ⟨?_, Jvm.Kit.i32_sub (by omega) (by omega)⟩
  rw [Jvm.Kit.i64_sub (by rw [Jvm.Kit.i64_of_i32, Jvm.Kit.i64_of_i32]; omega) (by rw [Jvm.Kit.i64_of_i32, Jvm.Kit.i64_of_i32]; omega), Jvm.Kit.i64_of_i32, Jvm.Kit.i64_of_i32]
theorem pg_dn {p g : Int32} (hp : pg_S p) (hg : pg_S g) : (-(p.toInt64 - g.toInt64)).toInt = -(p.toInt - g.toInt) ∧ (-(p - g)).toInt = -(p.toInt - g.toInt) := by
  have a := hp.1
  have b := hp.2
  have c := hg.1
  have d := hg.2
  have ⟨e, f⟩ := pg_d hp hg
  exact ⟨by rw [Jvm.Kit.i64_neg (by rw [e]; omega), e], by rw [Jvm.Kit.i32_neg (by rw [f]; omega), f]⟩
theorem pg_lt {st y : Int32} {x : Int64} (h : x.toInt = y.toInt) : st.toInt64 < x ↔ st < y := by
  rw [Int64.lt_iff_toInt_lt, Int32.lt_iff_toInt_lt, Jvm.Kit.i64_of_i32, h]
theorem pg_nn {y : Int32} {x : Int64} (h : x.toInt = y.toInt) : 0 ≤ x ↔ 0 ≤ y := by
  rw [Jvm.Kit.i64_nonneg, Jvm.Kit.i32_nonneg, h]
end
section
/-- one state for both: the same six numbers; the borders and the last good value are shorts, the run is 0 to 3 -/
def i_Rel (_ : Nat) (u : SX) (v : SY) : Prop := ∃ lo hi st g r w : Int32, u = (lo, hi, st, g, r, w) ∧ v = (lo, hi, st, g, r, w) ∧ pg_S lo ∧ pg_S hi ∧ pg_S g ∧ pg_R r
theorem i_up {k : Nat} {u : SX} {v : SY} (h : i_Rel k u v) : i_Rel (k + 2) u v := h
theorem pg_rel (k : Nat) {lo hi g r : Int32} (st w : Int32) (hl : pg_S lo) (hh : pg_S hi) (hg : pg_S g) (hr : pg_R r) : i_Rel k (lo, hi, st, g, r, w) (lo, hi, st, g, r, w) := ⟨lo, hi, st, g, r, w, rfl, rfl, hl, hh, hg, hr⟩
theorem pg_and {A B C : Prop} (a : A) (b : B) (c : C) : A ∧ B ∧ C := ⟨a, b, c⟩
theorem i_vc0 (k0 : Int32) (k1 : Int32) (k2 : Int32) : wpX_init (fun u => wpY_init (fun v => i_Rel 3 u v) k0 k1 k2) k0 k1 k2 := by
  by_cases c : k0.toInt16.toInt32 ≤ k1.toInt16.toInt32
  · by_cases d : 0 ≤ k2
    · exact br_t c (br_t d (pg_and (pk_ns k0) (pk_fs k0) (br_t c (pg_and (pk_ns k1) (pk_fs k1) (br_t d (pg_and (pk_ns k0) (pk_fs k0) (pg_rel 3 k2 0 (pg_sS k0) (pg_sS k1) (pg_sS k0) pg_R0)))))))
    · exact br_t c (br_f d (pg_and (pk_ns k0) (pk_fs k0) (br_t c (pg_and (pk_ns k1) (pk_fs k1) (br_f d (pg_and (pk_ns k0) (pk_fs k0) (pg_rel 3 0 0 (pg_sS k0) (pg_sS k1) (pg_sS k0) pg_R0)))))))
  · by_cases d : 0 ≤ k2
    · exact br_f c (br_t d (pg_and (pk_ns k0) (pk_fs k0) (br_f c (pg_and (pk_ns k0) (pk_fs k0) (br_t d (pg_and (pk_ns k0) (pk_fs k0) (pg_rel 3 k2 0 (pg_sS k0) (pg_sS k0) (pg_sS k0) pg_R0)))))))
    · exact br_f c (br_f d (pg_and (pk_ns k0) (pk_fs k0) (br_f c (pg_and (pk_ns k0) (pk_fs k0) (br_f d (pg_and (pk_ns k0) (pk_fs k0) (pg_rel 3 0 0 (pg_sS k0) (pg_sS k0) (pg_sS k0) pg_R0)))))))
/-- out of range: both hold -/
theorem pg_out {lo hi st g r w : Int32} (k : Nat) (Y : (Int32 → SY → Prop) → Prop) (hl : pg_S lo) (hh : pg_S hi) (hg : pg_S g) (hr : pg_R r) (H : ∀ post, wY_accept_16 post lo hi st g r w → Y post) : wX_accept_16 (fun q u' => Y (fun q' v' => q' = q ∧ i_Rel k u' v')) lo hi st g r w := by
  by_cases d : 3 ≤ r
  · exact br_t d (H _ (br_t d ⟨rfl, pg_rel k st 1 hl hh hg hr⟩))
  · have ⟨hr', e⟩ := pg_inc hr (pg_not3 d)
    refine br_f d fun x ex => H _ (br_f d fun y ey => ?_)
    subst ex
    subst ey
    refine pg_and (pk_nb _) (pk_fb _) ⟨rfl, ?_⟩
    rw [e]
    exact pg_rel k st 1 hl hh hg hr'
/-- in range, the distances compared: both take the value, or both hold -/
theorem pg_in {lo hi st g r w p y : Int32} {x : Int64} (k : Nat) (Y : (Int32 → SY → Prop) → Prop) (hl : pg_S lo) (hh : pg_S hi) (hg : pg_S g) (hr : pg_R r) (hp : pg_S p) (hxy : x.toInt = y.toInt) (H : ∀ post, wY_accept_59 post p y lo hi st g r w → Y post) : wX_accept_62 (fun q u' => Y (fun q' v' => q' = q ∧ i_Rel k u' v')) p x lo hi st g r w := by
  have es : p.toInt16.toInt32 = p := pg_s hp
  by_cases d : st < y
  · have dx : st.toInt64 < x := (pg_lt hxy).mpr d
    by_cases t : r = 3
    · refine br_t dx (br_t t (H _ (br_t d (br_t t (pg_and (pk_ns p) (pk_fs p) ⟨es, ?_⟩)))))
      rw [es]
      exact pg_rel k st 3 hl hh hp pg_R0
    · have ⟨hr', e⟩ := pg_inc hr t
      refine br_t dx (br_f t fun a ea => H _ (br_t d (br_f t fun b eb => ?_)))
      subst ea
      subst eb
      refine pg_and (pk_nb _) (pk_fb _) ⟨rfl, ?_⟩
      rw [e]
      exact pg_rel k st 2 hl hh hg hr'
  · have dx : ¬ st.toInt64 < x := fun z => d ((pg_lt hxy).mp z)
    refine br_f dx (H _ (br_f d (pg_and (pk_ns p) (pk_fs p) ⟨es, ?_⟩)))
    rw [es]
    exact pg_rel k st 0 hl hh hp pg_R0
theorem i_vc_accept {k : Nat} {u : SX} {v : SY} (I : i_Rel k u v) (hk : k + 2 ≤ 1027) (v1 : Int32) : wpX_accept (fun r u' => wpY_accept (fun r' v' => r' = r ∧ i_Rel (k + 2) u' v') v v1) u v1 := by
  obtain ⟨lo, hi, st, g, r, w, rfl, rfl, hl, hh, hg, hr⟩ := I
  by_cases a : v1 < lo
  · exact br_t a (pg_out (k + 2) (fun post => wpY_accept post (lo, hi, st, g, r, w) v1) hl hh hg hr fun _ h => br_t a h)
  · by_cases b : v1 ≤ hi
    · have hp : pg_S v1 := pg_mid hl hh a b
      have ⟨e, f⟩ := pg_d hp hg
      have ⟨e', f'⟩ := pg_dn hp hg
      have ef := e.trans f.symm
      by_cases c : 0 ≤ v1 - g
      · refine br_f a (br_t b fun x ex => ?_)
        subst ex
        exact br_t ((pg_nn ef).mpr c) (pg_in (k + 2) (fun post => wpY_accept post (lo, hi, st, g, r, w) v1) hl hh hg hr hp ef fun _ h => br_f a (br_t b fun y ey => br_t (ey ▸ c) (ey ▸ h)))
      · refine br_f a (br_t b fun x ex => ?_)
        subst ex
        refine br_f (fun z => c ((pg_nn ef).mp z)) fun x ex => ?_
        subst ex
        refine pg_in (k + 2) (fun post => wpY_accept post (lo, hi, st, g, r, w) v1) hl hh hg hr hp (e'.trans f'.symm) fun _ h => br_f a (br_t b fun y ey => ?_)
        subst ey
        refine br_f c fun y ey => ?_
        subst ey
        exact h
    · exact br_f a (br_f b (pg_out (k + 2) (fun post => wpY_accept post (lo, hi, st, g, r, w) v1) hl hh hg hr fun _ h => br_f a (br_f b h)))
theorem i_vc_lastVerdict {k : Nat} {u : SX} {v : SY} (I : i_Rel k u v) (hk : k + 2 ≤ 1027) : wpX_lastVerdict (fun r => wpY_lastVerdict (fun r' => r' = r ∧ i_Rel (k + 2) u v) v) u := by
  obtain ⟨lo, hi, st, g, r, w, rfl, rfl, hl, hh, hg, hr⟩ := I
  exact And.intro rfl (pg_rel (k + 2) st w hl hh hg hr)
theorem i_vc_held {k : Nat} {u : SX} {v : SY} (I : i_Rel k u v) (hk : k + 2 ≤ 1027) : wpX_held (fun r => wpY_held (fun r' => r' = r ∧ i_Rel (k + 2) u v) v) u := by
  obtain ⟨lo, hi, st, g, r, w, rfl, rfl, hl, hh, hg, hr⟩ := I
  exact And.intro rfl (pg_rel (k + 2) st w hl hh hg hr)
end
