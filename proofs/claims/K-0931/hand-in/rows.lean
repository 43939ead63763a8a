section
theorem pk_us {f : Nat → Int32} {k : Nat} {x : Int32} : upd f k x k = x := if_pos rfl
theorem pk_un {f : Nat → Int32} {k j : Nat} {x : Int32} (h : j ≠ k) : upd f k x j = f j := if_neg h
theorem pk_sub {a b : Nat} (h : b ≤ a) : nI a - nI b = nI (a - b) := by
  obtain ⟨c, rfl⟩ : ∃ c, a = c + b := ⟨a - b, by omega⟩
  rw [← nI_add, Int32.add_sub_cancel, Nat.add_sub_cancel]
theorem pk_shr (a s : Int32) (k : Nat) (hs : (s.toBitVec.smod 32).toNat = k) : (a >>> s).toInt = a.toInt >>> k := by
  show (a.toBitVec.sshiftRight (s.toBitVec.smod 32).toNat).toInt = _
  rw [hs, BitVec.toInt_sshiftRight]
  rfl
/-- a cell's content: odd (a constant), or twice the number of a variable -/
def dc_c (c : Int32) : Prop := (c &&& 1) = 0 → ∃ w : Nat, w < 8 ∧ c = nI w * 2
/-- a trail entry: the number of a variable -/
def dc_t (x : Int32) : Prop := ∃ w : Nat, w < 8 ∧ x = nI w
theorem dc_8 : nI 8 = 8 := by decide +kernel
theorem dc_shl : ∀ w, w < 8 → nI w <<< ((1 : Int32) &&& 31) = nI w * 2 := by decide +kernel
theorem dc_shr : ∀ w, w < 8 → (nI w * 2) >>> ((1 : Int32) &&& 31) = nI w := by decide +kernel
theorem dc_m7 : ∀ w, w < 8 → nI w &&& 7 = nI w := by decide +kernel
theorem dc_odd : ∀ w, w < 8 → ¬ (nI (2 * w + 1) &&& 1) = 0 := by decide +kernel
theorem dc_dbl : ∀ w, w < 8 → nI (2 * w) = nI w * 2 := by decide +kernel
theorem dc_inj : ∀ w, w < 8 → ∀ v, v < 8 → nI w * 2 = nI v * 2 → w = v := by decide +kernel
theorem dc_chr0 : ∀ w, w < 8 → ((nI w).toUInt32 % 65536).toInt32.toUInt32.toUInt16.toUInt32.toInt32 = nI w := by decide +kernel
theorem dc_chr (w : Nat) (hw : w < 8) : vp_nar .char (((nI w).toUInt32 % 65536).toInt32) = nI w := by
  rw [vp_nar_char]
  exact dc_chr0 w hw
theorem dc_cs (w : Nat) (hw : w < 8) : dc_c (nI w * 2) := fun _ => ⟨w, hw, rfl⟩
/-- an even int whose half is a variable's number is twice that number -/
theorem dc_ev {c : Int32} {w : Nat} (hw : w < 8) (h0 : (c &&& 1) = 0) (h1 : c >>> ((1 : Int32) &&& 31) = nI w) : c = nI w * 2 := by
  have e : (c >>> ((1 : Int32) &&& 31)).toInt = c.toInt >>> 1 := pk_shr c _ 1 (by decide)
  rw [h1, nI_toInt (by omega), Int.shiftRight_eq_div_pow] at e
  have e2 : (w : Int) = c.toInt / 2 := e
  have h2 : c.toInt = 2 * (w : Int) ∨ c.toInt = 2 * (w : Int) + 1 := by omega
  rcases h2 with h2 | h2
  · have h3 : c = nI (2 * w) := by
      apply Int32.toInt_inj.mp
      rw [nI_toInt (by omega), h2]
      omega
    rw [h3, dc_dbl w hw]
  · have h3 : c = nI (2 * w + 1) := by
      apply Int32.toInt_inj.mp
      rw [nI_toInt (by omega), h2]
      omega
    rw [h3] at h0
    exact absurd h0 (dc_odd w hw)
theorem dc_in (a : Nat) (h : a < 8) : vp_in (nI a) 8 := vp_in_nI h (by decide)
theorem dc_cl (a : Nat) (h : a < 8) : (nI a).toNatClampNeg = a := nI_clamp (by omega)
theorem dc_lt8 {i : Nat} (h : i < 8) : ¬ (8 : Int32) ≤ nI i := nI_ge (b := 8) h (by decide)
theorem dc_ge8 {i : Nat} (h : i = 8) : (8 : Int32) ≤ nI i := by
  rw [h, dc_8]
  decide
theorem dc_upd {a : Nat → Int32} {P : Int32 → Prop} {n k : Nat} {x : Int32} (h : ∀ j, j < n → P (a j)) (hx : P x) : ∀ j, j < n → P (upd a k x j) := by
  intro j hj
  by_cases e : j = k
  · rw [e, pk_us]
    exact hx
  · rw [pk_un e]
    exact h j hj
end
section
/-- both constructors' loops fill the cells alike -/
theorem dc_init (tr : Nat → Int32) : ∀ d i : Nat, i + d = 8 → ∀ a : Nat → Int32, (∀ j, j < i → dc_c (a j)) → ∃ a' : Nat → Int32, (∀ j, j < 8 → dc_c (a' j)) ∧ (∀ post : SX → Prop, post (0, 0, a', tr) → wX_init_21 post 0 0 (d + 1) (nI i) a tr) ∧ (∀ post : SY → Prop, post (0, 0, a', tr) → wY_init_21 post 0 0 (d + 1) (nI i) a tr) := by
  intro d
  induction d with
  | zero =>
    intro i hi a ha
    have h := dc_ge8 (show i = 8 by omega)
    exact ⟨a, fun j hj => ha j (by omega), fun _ hp => br_t h hp, fun _ hp => br_t h hp⟩
  | succ d ih =>
    intro i hi a ha
    have hi8 : i < 8 := by omega
    have h := dc_lt8 hi8
    have hin := dc_in i hi8
    have hc := dc_cl i hi8
    have ha' : ∀ j, j < i + 1 → dc_c (upd a i (nI i * 2) j) := by
      intro j hj
      by_cases e : j = i
      · rw [e, pk_us]
        exact dc_cs i hi8
      · rw [pk_un e]
        exact ha j (by omega)
    obtain ⟨a', ok, hX, hY⟩ := ih (i + 1) (by omega) (upd a i (nI i * 2)) ha'
    refine ⟨a', ok, fun post hp => br_f h ⟨hin, fun b eb x ex => ?_⟩, fun post hp => br_f h ⟨hin, fun b eb x ex => ?_⟩⟩
    · rw [hc] at eb
      rw [eb, ex, nI_1]
      exact hX post hp
    · rw [hc, dc_shl i hi8] at eb
      rw [eb, ex, nI_1]
      exact hY post hp
/-- both deref loops walk the same chain -/
theorem dc_loop (ft fb : Int32) (a tr : Nat → Int32) (ok : ∀ j, j < 8 → dc_c (a j)) : ∀ d i : Nat, i + d = 8 → ∀ p : Nat, p < 8 → ∃ r : Int32, (∀ post : Int32 → Prop, post r → wX_deref_24 post ft fb a tr (d + 1) (nI p) (a p) (nI i)) ∧ (∀ post : Int32 → Prop, post r → wY_deref_21 post ft fb a tr (d + 1) (nI p) (a p) (nI i)) := by
  intro d
  induction d with
  | zero =>
    intro i hi p hp
    have h := dc_ge8 (show i = 8 by omega)
    exact ⟨a p, fun _ hq => br_t h hq, fun _ hq => br_t h hq⟩
  | succ d ih =>
    intro i hi p hp
    have h := dc_lt8 (show i < 8 by omega)
    by_cases z : (a p &&& 1) = 0
    · obtain ⟨w, hw, e⟩ := ok p hp z
      have es : a p >>> ((1 : Int32) &&& 31) = nI w := by
        rw [e]
        exact dc_shr w hw
      by_cases q : w = p
      · have q1 : a p = nI p * 2 := by rw [e, q]
        have q2 : a p >>> ((1 : Int32) &&& 31) = nI p := by rw [es, q]
        exact ⟨a p, fun _ hq => br_f h (br_t z (br_t q1 hq)), fun _ hq => br_f h (br_t z (br_t q2 hq))⟩
      · have q1 : ¬ a p = nI p * 2 := fun hh => q (dc_inj w hw p hp (e.symm.trans hh))
        have q2 : ¬ a p >>> ((1 : Int32) &&& 31) = nI p := fun hh => q ((nI_eq (by omega) (by omega)).mp (es.symm.trans hh))
        have hin := dc_in w hw
        have hc := dc_cl w hw
        obtain ⟨r, hX, hY⟩ := ih (i + 1) (by omega) w hw
        refine ⟨r, fun post hq => br_f h (br_t z (br_f q1 fun x ex => ?_)), fun post hq => br_f h (br_t z (br_f q2 fun x ex => ?_))⟩
        · rw [es] at ex
          subst ex
          refine ⟨hin, fun y ey k ek => ?_⟩
          rw [hc] at ey
          rw [ey, ek, nI_1]
          exact hX post hq
        · rw [es, dc_m7 w hw] at ex
          subst ex
          refine ⟨hin, fun y ey k ek => ?_⟩
          rw [hc] at ey
          rw [ey, ek, nI_1]
          exact hY post hq
    · exact ⟨a p, fun _ hq => br_f h (br_f z hq), fun _ hq => br_f h (br_f z hq)⟩
/-- both unwind loops reset the same cells; X counts its passes -/
theorem dc_unw (fb : Int32) (tr : Nat → Int32) (otr : ∀ j, j < 4 → dc_t (tr j)) (p : Nat) : ∀ d : Nat, p + d ≤ 4 → ∀ (n : Nat) (a : Nat → Int32), (∀ j, j < 8 → dc_c (a j)) → ∃ a' : Nat → Int32, (∀ j, j < 8 → dc_c (a' j)) ∧ (∀ post : Int32 → SX → Prop, post (nI (n + d)) (nI p, fb, a', tr) → wX_unwind_16 post (nI p) fb (d + 1) (nI n) (nI (p + d)) a tr) ∧ (∀ (x : Int32) (post : Int32 → SY → Prop), post x (nI p, fb, a', tr) → wY_unwind_21 post (nI p) x fb (d + 1) (nI (p + d)) a tr) := by
  intro d
  induction d with
  | zero =>
    intro hd n a ok
    have h : nI (p + 0) ≤ nI p := nI_le (by omega) (by omega)
    exact ⟨a, ok, fun _ hp => br_t h hp, fun _ _ hp => br_t h hp⟩
  | succ d ih =>
    intro hd n a ok
    have h : ¬ nI (p + (d + 1)) ≤ nI p := nI_ge (by omega) (by omega)
    have e1 : nI (p + (d + 1)) - 1 = nI (p + d) := nI_pred (p + d)
    have hin : vp_in (nI (p + d)) 4 := vp_in_nI (by omega) (by decide)
    have hc : (nI (p + d)).toNatClampNeg = p + d := nI_clamp (by omega)
    obtain ⟨w, hw, et⟩ := otr (p + d) (by omega)
    have hiw := dc_in w hw
    have hcw := dc_cl w hw
    obtain ⟨a', ok', hX, hY⟩ := ih (by omega) (n + 1) (upd a w (nI w * 2)) (dc_upd ok (dc_cs w hw))
    rw [show n + 1 + d = n + (d + 1) by omega] at hX
    refine ⟨a', ok', fun post hp => br_f h fun t4 e4 => ?_, fun x post hp => br_f h fun t4 e4 => ?_⟩
    · rw [e1] at e4
      subst e4
      refine ⟨hin, fun x3 e3 => ?_⟩
      rw [hc, et] at e3
      subst e3
      refine ⟨hiw, fun b eb y ey => ?_⟩
      rw [hcw] at eb
      rw [eb, ey, nI_1]
      exact hX post hp
    · rw [e1] at e4
      subst e4
      refine ⟨by rw [e1]; exact hin, fun x3 e3 => ?_⟩
      rw [e1, hc, et, dc_m7 w hw] at e3
      subst e3
      refine ⟨hiw, fun b eb => ?_⟩
      rw [hcw, dc_shl w hw] at eb
      rw [eb]
      exact hY x post hp
end
section
/-- the two objects hold the same state; top is at most 4, each cell is odd or twice a variable, each trail entry is a variable -/
def i_Rel (k : Nat) (u : SX) (v : SY) : Prop := ∃ (t : Nat) (b : Int32) (a tr : Nat → Int32), t ≤ 4 ∧ (∀ j, j < 8 → dc_c (a j)) ∧ (∀ j, j < 4 → dc_t (tr j)) ∧ u = (nI t, b, a, tr) ∧ v = (nI t, b, a, tr)
theorem dc_mk {k t : Nat} {b : Int32} {a tr : Nat → Int32} (ht : t ≤ 4) (ok : ∀ j, j < 8 → dc_c (a j)) (otr : ∀ j, j < 4 → dc_t (tr j)) : i_Rel k (nI t, b, a, tr) (nI t, b, a, tr) := ⟨t, b, a, tr, ht, ok, otr, rfl, rfl⟩
theorem i_up {k : Nat} {u : SX} {v : SY} (h : i_Rel k u v) : i_Rel (k + 3) u v := h
theorem i_vc0 : wpX_init (fun u => wpY_init (fun v => i_Rel 0 u v)) := by
  obtain ⟨a, ok, hX, hY⟩ := dc_init (fun _ => 0) 8 0 rfl (fun _ => 0) (fun j hj => absurd hj (Nat.not_lt_zero j))
  have J : i_Rel 0 (nI 0, 0, a, fun _ => 0) (nI 0, 0, a, fun _ => 0) := dc_mk (by omega) ok (fun _ _ => ⟨0, by omega, nI_0.symm⟩)
  rw [nI_0] at hX hY J
  exact ⟨9, hX _ ⟨9, hY _ J⟩⟩
/-- the tail of bind, one outcome for both sides -/
theorem dc_b49 {t p : Nat} {b v2 : Int32} {a tr : Nat → Int32} (k : Nat) (ht : t ≤ 4) (ok : ∀ j, j < 8 → dc_c (a j)) (otr : ∀ j, j < 4 → dc_t (tr j)) (hp : p < 8) (hv : dc_c v2) : ∃ (r : Int32) (u : SX) (v : SY), i_Rel k u v ∧ (∀ post : Int32 → SX → Prop, post r u → wX_bind_49 post (nI p) v2 (nI t) b a tr) ∧ (∀ post : Int32 → SY → Prop, post r v → wY_bind_49 post (nI p) v2 (nI t) b a tr) := by
  have hin := dc_in p hp
  have hc := dc_cl p hp
  by_cases hb : b ≤ nI p
  · refine ⟨0, (nI t, b, upd a p v2, tr), (nI t, b, upd a p v2, tr), dc_mk ht (dc_upd ok hv) otr, fun post hq => br_t hb ⟨hin, fun c ec => ?_⟩, fun post hq => br_t hb ⟨hin, fun c ec => ?_⟩⟩
    · rw [hc] at ec
      rw [ec]
      exact hq
    · rw [hc] at ec
      rw [ec]
      exact hq
  · by_cases h4 : t < 4
    · have h4' : nI t < 4 := nI_lt (b := 4) h4 (by decide)
      have it : vp_in (nI t) 4 := vp_in_nI h4 (by decide)
      have hct : (nI t).toNatClampNeg = t := nI_clamp (by omega)
      refine ⟨1, (nI (t + 1), b, upd a p v2, upd tr t (nI p)), (nI (t + 1), b, upd a p v2, upd tr t (nI p)), dc_mk (by omega) (dc_upd ok hv) (dc_upd otr ⟨p, hp, rfl⟩), fun post hq => br_f hb (br_t h4' ⟨it, fun c ec d ed => ⟨hin, fun g eg => ?_⟩⟩), fun post hq => br_f hb (br_t h4' fun d ed => ⟨it, fun c ec => ⟨hin, fun g eg => ?_⟩⟩)⟩
      · rw [hct] at ec
        rw [nI_1] at ed
        rw [hc] at eg
        rw [ec, ed, eg]
        exact hq
      · rw [hct, dc_chr p hp] at ec
        rw [nI_1] at ed
        rw [hc] at eg
        rw [ec, ed, eg]
        exact hq
    · have h4' : ¬ nI t < 4 := nI_nlt (b := 4) (by omega) (by omega)
      exact ⟨-4, (nI t, b, a, tr), (nI t, b, a, tr), dc_mk ht ok otr, fun post hq => br_f hb (br_f h4' hq), fun post hq => br_f hb (br_f h4' hq)⟩
theorem dc_n8 {x : Int32} (h : ¬ x ≤ 7) : ¬ x < 8 := by
  rw [Int32.le_iff_toInt_le, show (7 : Int32).toInt = 7 by decide] at h
  rw [Int32.lt_iff_toInt_lt, show (8 : Int32).toInt = 8 by decide]
  omega
theorem i_vc_bind {k : Nat} {u : SX} {v : SY} (I : i_Rel k u v) (hk : k + 3 ≤ 1536) (v1 : Int32) (v2 : Int32) : wpX_bind (fun r u' => wpY_bind (fun r' v' => r' = r ∧ i_Rel (k + 3) u' v') v v1 v2) u v1 v2 := by
  obtain ⟨t, b, a, tr, ht, ok, otr, rfl, rfl⟩ := I
  have J : i_Rel (k + 3) (nI t, b, a, tr) (nI t, b, a, tr) := dc_mk ht ok otr
  by_cases h0 : v1 < 0
  · exact br_t h0 (br_t h0 ⟨rfl, J⟩)
  · by_cases h7 : v1 ≤ 7
    · obtain ⟨p, hp, rfl⟩ := nI_of2 (M := 7) (n := 7) (by decide) h0 h7
      have hp8 : p < 8 := by omega
      have h8 : nI p < 8 := nI_lt (b := 8) hp8 (by decide)
      have hin := dc_in p hp8
      have hs := dc_shl p hp8
      by_cases e : a (nI p).toNatClampNeg = nI p * 2
      · have e' : a (nI p).toNatClampNeg = nI p <<< ((1 : Int32) &&& 31) := by
          rw [hs]
          exact e
        by_cases z : (v2 &&& 1) = 0
        · by_cases n0 : v2 >>> ((1 : Int32) &&& 31) < 0
          · exact br_f h0 (br_t h7 ⟨hin, br_t e (br_t z (nm_e (br_t n0 (br_f h0 (br_t h8 ⟨hin, br_t e' (br_t z (br_t n0 ⟨rfl, J⟩))⟩)))))⟩)
          · by_cases nv : v2 >>> ((1 : Int32) &&& 31) < nI p
            · have hv : dc_c v2 := by
                obtain ⟨w, hw, ew⟩ := nI_of n0
                rw [ew, nI_ltI hw (by omega)] at nv
                exact fun _ => ⟨w, by omega, dc_ev (by omega) z ew⟩
              obtain ⟨r, u', v', hr, hX, hY⟩ := dc_b49 (k + 3) ht ok otr hp8 hv
              exact br_f h0 (br_t h7 ⟨hin, br_t e (br_t z (nm_e (br_f n0 (br_t nv (hX _ (br_f h0 (br_t h8 ⟨hin, br_t e' (br_t z (br_f n0 (br_t nv (hY _ ⟨rfl, hr⟩))))⟩)))))))⟩)
            · exact br_f h0 (br_t h7 ⟨hin, br_t e (br_t z (nm_e (br_f n0 (br_f nv (br_f h0 (br_t h8 ⟨hin, br_t e' (br_t z (br_f n0 (br_f nv ⟨rfl, J⟩)))⟩))))))⟩)
        · obtain ⟨r, u', v', hr, hX, hY⟩ := dc_b49 (k + 3) ht ok otr hp8 (show dc_c v2 from fun hz => absurd hz z)
          exact br_f h0 (br_t h7 ⟨hin, br_t e (br_f z (hX _ (br_f h0 (br_t h8 ⟨hin, br_t e' (br_f z (hY _ ⟨rfl, hr⟩))⟩))))⟩)
      · have e' : ¬ a (nI p).toNatClampNeg = nI p <<< ((1 : Int32) &&& 31) := by
          rw [hs]
          exact e
        exact br_f h0 (br_t h7 ⟨hin, br_f e (br_f h0 (br_t h8 ⟨hin, br_f e' ⟨rfl, J⟩⟩))⟩)
    · exact br_f h0 (br_f h7 (br_f h0 (br_f (dc_n8 h7) ⟨rfl, J⟩)))
theorem i_vc_deref {k : Nat} {u : SX} {v : SY} (I : i_Rel k u v) (hk : k + 3 ≤ 1536) (v1 : Int32) : wpX_deref (fun r => wpY_deref (fun r' => r' = r ∧ i_Rel (k + 3) u v) v v1) u v1 := by
  obtain ⟨t, b, a, tr, ht, ok, otr, rfl, rfl⟩ := I
  have J : i_Rel (k + 3) (nI t, b, a, tr) (nI t, b, a, tr) := dc_mk ht ok otr
  by_cases h0 : v1 < 0
  · exact br_t h0 (br_t h0 ⟨rfl, J⟩)
  · by_cases h7 : v1 ≤ 7
    · obtain ⟨p, hp, rfl⟩ := nI_of2 (M := 7) (n := 7) (by decide) h0 h7
      have hp8 : p < 8 := by omega
      have h8 : nI p < 8 := nI_lt (b := 8) hp8 (by decide)
      have hin := dc_in p hp8
      have hc := dc_cl p hp8
      obtain ⟨r, hX, hY⟩ := dc_loop (nI t) b a tr ok 8 0 rfl p hp8
      rw [nI_0] at hX hY
      refine br_f h0 (br_t h7 ⟨hin, fun x ex => ⟨9, ?_⟩⟩)
      rw [hc] at ex
      rw [ex]
      refine hX _ (br_f h0 (br_t h8 ⟨hin, fun y ey => ⟨9, ?_⟩⟩))
      rw [hc] at ey
      rw [ey]
      exact hY _ ⟨rfl, J⟩
    · exact br_f h0 (br_f h7 (br_f h0 (br_f (dc_n8 h7) ⟨rfl, J⟩)))
theorem i_vc_choice {k : Nat} {u : SX} {v : SY} (I : i_Rel k u v) (hk : k + 3 ≤ 1536) (v1 : Int32) : wpX_choice (fun r u' => wpY_choice (fun r' v' => r' = r ∧ i_Rel (k + 3) u' v') v v1) u v1 := by
  obtain ⟨t, b, a, tr, ht, ok, otr, rfl, rfl⟩ := I
  by_cases h : 0 ≤ v1
  · by_cases h8 : v1 ≤ 8
    · exact br_t h (br_t h8 (br_t h (br_t h8 ⟨rfl, dc_mk ht ok otr⟩)))
    · exact br_t h (br_f h8 (br_t h (br_f h8 ⟨rfl, dc_mk ht ok otr⟩)))
  · have h08 : (0 : Int32) ≤ 8 := by decide
    exact br_f h (br_f h (br_t h08 ⟨rfl, dc_mk ht ok otr⟩))
theorem i_vc_unwind {k : Nat} {u : SX} {v : SY} (I : i_Rel k u v) (hk : k + 3 ≤ 1536) (v1 : Int32) : wpX_unwind (fun r u' => wpY_unwind (fun r' v' => r' = r ∧ i_Rel (k + 3) u' v') v v1) u v1 := by
  obtain ⟨t, b, a, tr, ht, ok, otr, rfl, rfl⟩ := I
  have J : i_Rel (k + 3) (nI t, b, a, tr) (nI t, b, a, tr) := dc_mk ht ok otr
  by_cases h0 : v1 < 0
  · exact br_t h0 (br_t h0 ⟨rfl, J⟩)
  · by_cases h1 : v1 ≤ nI t
    · obtain ⟨p, hp, rfl⟩ := nI_of h0
      have hpt : p ≤ t := (nI_leI hp (by omega)).mp h1
      obtain ⟨a', ok', hX, hY⟩ := dc_unw b tr otr p (t - p) (by omega) 0 a ok
      rw [show p + (t - p) = t by omega] at hX hY
      rw [Nat.zero_add, nI_0] at hX
      exact br_f h0 (br_t h1 ⟨t - p + 1, hX _ (br_f h0 (br_t h1 fun x ex => ⟨t - p + 1, hY x _ ⟨ex.trans (pk_sub hpt), dc_mk (by omega) ok' otr⟩⟩))⟩)
    · exact br_f h0 (br_f h1 (br_f h0 (br_f h1 ⟨rfl, J⟩)))
theorem i_vc_trailTop {k : Nat} {u : SX} {v : SY} (I : i_Rel k u v) (hk : k + 3 ≤ 1536) : wpX_trailTop (fun r => wpY_trailTop (fun r' => r' = r ∧ i_Rel (k + 3) u v) v) u := by
  obtain ⟨t, b, a, tr, ht, ok, otr, rfl, rfl⟩ := I
  have J : i_Rel (k + 3) (nI t, b, a, tr) (nI t, b, a, tr) := dc_mk ht ok otr
  exact ⟨rfl, J⟩
end
