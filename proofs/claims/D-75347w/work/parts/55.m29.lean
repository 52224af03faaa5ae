theorem ww_tabo {x : Int32} {lo hi : Int} (h : ∀ j : Int, lo ≤ j → j ≤ hi → x.toInt = j → False) : x.toInt < lo ∨ hi < x.toInt := by
  by_cases h1 : x.toInt < lo
  · exact Or.inl h1
  · by_cases h2 : hi < x.toInt
    · exact Or.inr h2
    · exact (h x.toInt (by omega) (by omega) rfl).elim
def sOp (x : Int32) (a b : Int64) : Int64 := if x = -20 then (if a < b then 1 else 0) else if x = -21 then (if a = b then 1 else 0) else if x = -22 then (if b < a then 1 else 0) else if x = -24 then a &&& b else a ||| b
def sIsL (f : Nat → Int64) (v : Int64) : Nat → Bool
  | 0 => false
  | k + 1 => sIsL f v k || decide (aAbs (f (157 + 8 * k + 0) - v) ≤ f 3)
theorem sIsL_mono {f : Nat → Int64} {v : Int64} {k q : Nat} (h : k < q) (hk : sIsL f v (k + 1) = true) : sIsL f v q = true := by
  induction q with
  | zero => omega
  | succ q ih =>
    rcases Nat.lt_succ_iff_lt_or_eq.mp h with h | rfl
    · rw [sIsL, ih h, Bool.true_or]
    · exact hk
/-- a property of the k-th value by its number -/
def sPr (R : Int64 → Int64) (f : Nat → Int64) (m q k : Nat) (x : Int32) : Int64 := if x = 0 then lN k else if x = 1 then aAbs (sVal f m k) else if x = 2 then (if 0 < sVal f m k then 1 else 0) else if x = 3 then sBnd R f m k else (if sIsL f (sVal f m k) q = true then 1 else 0)
theorem sPr_0 {R : Int64 → Int64} {f : Nat → Int64} {m q k : Nat} {x : Int32} (h : x = 0) : sPr R f m q k x = lN k := by rw [sPr, if_pos h]
theorem sPr_1 {R : Int64 → Int64} {f : Nat → Int64} {m q k : Nat} {x : Int32} (h : x = 1) : sPr R f m q k x = aAbs (sVal f m k) := by rw [sPr, if_neg (show ¬ x = 0 by rw [h]; decide), if_pos h]
theorem sPr_2 {R : Int64 → Int64} {f : Nat → Int64} {m q k : Nat} {x : Int32} (h : x = 2) : sPr R f m q k x = if 0 < sVal f m k then 1 else 0 := by rw [sPr, if_neg (show ¬ x = 0 by rw [h]; decide), if_neg (show ¬ x = 1 by rw [h]; decide), if_pos h]
theorem sPr_3 {R : Int64 → Int64} {f : Nat → Int64} {m q k : Nat} {x : Int32} (h : x = 3) : sPr R f m q k x = sBnd R f m k := by rw [sPr, if_neg (show ¬ x = 0 by rw [h]; decide), if_neg (show ¬ x = 1 by rw [h]; decide), if_neg (show ¬ x = 2 by rw [h]; decide), if_pos h]
theorem sPr_4 {R : Int64 → Int64} {f : Nat → Int64} {m q k : Nat} {x : Int32} (h0 : ¬ x = 0) (h1 : ¬ x = 1) (h2 : ¬ x = 2) (h3 : ¬ x = 3) : sPr R f m q k x = if sIsL f (sVal f m k) q = true then 1 else 0 := by rw [sPr, if_neg h0, if_neg h1, if_neg h2, if_neg h3]
/-- codes run over a stack -/
def rSt (P : Int32 → Int64) (x : Int32) (s : (Nat → Int64) × Nat) : (Nat → Int64) × Nat :=
  if x = -23 then (vp_updL s.1 (s.2 - 1) (1 - s.1 (s.2 - 1)), s.2) else if -20 < x then (vp_updL s.1 s.2 (if 0 ≤ x then x.toInt64 else P (-1 - x)), s.2 + 1) else (vp_updL s.1 (s.2 - 1 - 1) (sOp x (s.1 (s.2 - 1 - 1)) (s.1 (s.2 - 1))), s.2 - 1)
def rRun (P : Int32 → Int64) (C : Nat → Int32) (s : (Nat → Int64) × Nat) : Nat → (Nat → Int64) × Nat
  | 0 => s
  | k + 1 => rSt P (C k) (rRun P C s k)
/-- no code runs short of the stack, none over it -/
def rOK (P : Int32 → Int64) (C : Nat → Int32) (s : (Nat → Int64) × Nat) (n : Nat) : Prop := ∀ k, k < n → (C k = -23 → 1 ≤ (rRun P C s k).2) ∧ (¬ C k = -23 → ¬ -20 < C k → 2 ≤ (rRun P C s k).2)
theorem rRun_le {P : Int32 → Int64} {C : Nat → Int32} {s : (Nat → Int64) × Nat} (k : Nat) : (rRun P C s k).2 ≤ s.2 + k := by
  induction k with
  | zero => exact Nat.le_refl _
  | succ k ih =>
    rw [rRun, rSt]
    repeat' split
    all_goals dsimp only; omega

abbrev S_met_operate (G : GX) (x : Int32) (a : Int64) (d : Int64) : List va_W := []
abbrev Q_met_operate (G : GX) (x : Int32) (a : Int64) (d : Int64) (A : Nat → Prop) := wQl' G (fun (r : Int64) (z : Unit) => r = sOp x a d) (fun (z : Unit) => ([] : List va_W)) A
set_option maxHeartbeats 8000000 in
set_option maxRecDepth 100000 in
theorem met_operate (l : Launch) (G : GX) (sz : Nat) (x : Int32) (a : Int64) (d : Int64)  : Met l yX6_operate (ws_ yX6_operate cX6_operate 5 (some .long)) ({ frames := 0, cells := 0, slots := 0, locals := 0 }) (va_Pc [.int x, .long a, .long d] (wPre G (S_met_operate G x a d) sz)) (Q_met_operate G x a d (wA (S_met_operate G x a d) sz)) 0 0 (wA (S_met_operate G x a d) sz) := by
  refine ww_start (Qf := fun A => Q_met_operate G x a d A) (by decide) (Nat.le_of_ble_eq_true rfl) ?_
  intro p9 e9 s m9 below9 meth9 c9 A ls hx hb hr hlocks hts hown hml hin hA hP hD hS hC hl
  have hK := hC.1
  have hl : lv_has ls 5 [(0, .int x), (1, .long a), (3, .long d)] := hl
  have hP : wP G.1 vwCl [] s.heap := hP
  have hD : wD A [] := hD
  refine lv_iload_n hx hb dX6_operate_0 rfl (lv_at hl 0 rfl) ?_
  by_cases c_1_m24 : x = (-24)
  · refine lv_tableIn (off := 71) (tgt := 72) hx hb dX6_operate_1 (by rw [c_1_m24]; decide) (by rw [c_1_m24]; decide) (by rw [c_1_m24]; rfl) (by decide) ?_
    refine lv_lload_n hx hb dX6_operate_72 rfl (lv_at hl 1 rfl) ?_
    refine lv_lload_n hx hb dX6_operate_73 rfl (lv_at hl 2 rfl) ?_
    refine lv_land hx hb dX6_operate_74 ?_
    exact ww_lret () hx hb hr hlocks hP hD hS (Nat.le_of_ble_eq_true rfl) (Nat.le_of_ble_eq_true rfl) dX6_operate_75 (by rw [sOp, if_neg (by rw [c_1_m24]; decide), if_neg (by rw [c_1_m24]; decide), if_neg (by rw [c_1_m24]; decide), if_pos c_1_m24])
  by_cases c_1_m23 : x = (-23)
  · refine lv_tableIn (off := 75) (tgt := 76) hx hb dX6_operate_1 (by rw [c_1_m23]; decide) (by rw [c_1_m23]; decide) (by rw [c_1_m23]; rfl) (by decide) ?_
    refine lv_lload_n hx hb dX6_operate_76 rfl (lv_at hl 1 rfl) ?_
    refine lv_lload_n hx hb dX6_operate_77 rfl (lv_at hl 2 rfl) ?_
    refine lv_lor hx hb dX6_operate_78 ?_
    exact ww_lret () hx hb hr hlocks hP hD hS (Nat.le_of_ble_eq_true rfl) (Nat.le_of_ble_eq_true rfl) dX6_operate_79 (by rw [sOp]; first | rw [if_neg (by rw [c_1_m23]; decide), if_neg (by rw [c_1_m23]; decide), if_neg (by rw [c_1_m23]; decide), if_neg (by rw [c_1_m23]; decide)] | rw [if_neg c_1_m20, if_neg c_1_m21, if_neg c_1_m22, if_neg c_1_m24])
  by_cases c_1_m22 : x = (-22)
  · refine lv_tableIn (off := 59) (tgt := 60) hx hb dX6_operate_1 (by rw [c_1_m22]; decide) (by rw [c_1_m22]; decide) (by rw [c_1_m22]; rfl) (by decide) ?_
    refine lv_lload_n hx hb dX6_operate_60 rfl (lv_at hl 1 rfl) ?_
    refine lv_lload_n hx hb dX6_operate_61 rfl (lv_at hl 2 rfl) ?_
    refine ww_lle (tgt := 70) hx hb dX6_operate_62 dX6_operate_63 (by decide) (fun c_62 => ?_) (fun c_62 => ?_)
    · refine lv_lconst (v := 0) hx hb dX6_operate_70 (by decide) ?_
      exact ww_lret () hx hb hr hlocks hP hD hS (Nat.le_of_ble_eq_true rfl) (Nat.le_of_ble_eq_true rfl) dX6_operate_71 (by rw [sOp, if_neg (by rw [c_1_m22]; decide), if_neg (by rw [c_1_m22]; decide), if_pos c_1_m22]; first | exact (if_pos (Int64.not_le.mp c_62)).symm | exact (if_neg (Int64.not_lt.mpr c_62)).symm)
    · refine lv_lconst (v := 1) hx hb dX6_operate_66 (by decide) ?_
      refine lv_goto (tgt := 71) hx hb dX6_operate_67 (by decide) ?_
      exact ww_lret () hx hb hr hlocks hP hD hS (Nat.le_of_ble_eq_true rfl) (Nat.le_of_ble_eq_true rfl) dX6_operate_71 (by rw [sOp, if_neg (by rw [c_1_m22]; decide), if_neg (by rw [c_1_m22]; decide), if_pos c_1_m22]; first | exact (if_pos (Int64.not_le.mp c_62)).symm | exact (if_neg (Int64.not_lt.mpr c_62)).symm)
  by_cases c_1_m21 : x = (-21)
  · refine lv_tableIn (off := 47) (tgt := 48) hx hb dX6_operate_1 (by rw [c_1_m21]; decide) (by rw [c_1_m21]; decide) (by rw [c_1_m21]; rfl) (by decide) ?_
    refine lv_lload_n hx hb dX6_operate_48 rfl (lv_at hl 1 rfl) ?_
    refine lv_lload_n hx hb dX6_operate_49 rfl (lv_at hl 2 rfl) ?_
    refine ww_lne (tgt := 58) hx hb dX6_operate_50 dX6_operate_51 (by decide) (fun c_50 => ?_) (fun c_50 => ?_)
    · refine lv_lconst (v := 0) hx hb dX6_operate_58 (by decide) ?_
      exact ww_lret () hx hb hr hlocks hP hD hS (Nat.le_of_ble_eq_true rfl) (Nat.le_of_ble_eq_true rfl) dX6_operate_59 (by rw [sOp, if_neg (by rw [c_1_m21]; decide), if_pos c_1_m21]; first | exact (if_pos c_50).symm | exact (if_neg c_50).symm)
    · refine lv_lconst (v := 1) hx hb dX6_operate_54 (by decide) ?_
      refine lv_goto (tgt := 59) hx hb dX6_operate_55 (by decide) ?_
      exact ww_lret () hx hb hr hlocks hP hD hS (Nat.le_of_ble_eq_true rfl) (Nat.le_of_ble_eq_true rfl) dX6_operate_59 (by rw [sOp, if_neg (by rw [c_1_m21]; decide), if_pos c_1_m21]; first | exact (if_pos c_50).symm | exact (if_neg c_50).symm)
  by_cases c_1_m20 : x = (-20)
  · refine lv_tableIn (off := 35) (tgt := 36) hx hb dX6_operate_1 (by rw [c_1_m20]; decide) (by rw [c_1_m20]; decide) (by rw [c_1_m20]; rfl) (by decide) ?_
    refine lv_lload_n hx hb dX6_operate_36 rfl (lv_at hl 1 rfl) ?_
    refine lv_lload_n hx hb dX6_operate_37 rfl (lv_at hl 2 rfl) ?_
    refine ww_lge (tgt := 46) hx hb dX6_operate_38 dX6_operate_39 (by decide) (fun c_38 => ?_) (fun c_38 => ?_)
    · refine lv_lconst (v := 0) hx hb dX6_operate_46 (by decide) ?_
      exact ww_lret () hx hb hr hlocks hP hD hS (Nat.le_of_ble_eq_true rfl) (Nat.le_of_ble_eq_true rfl) dX6_operate_47 (by rw [sOp, if_pos c_1_m20]; first | exact (if_neg (Int64.not_lt.mpr c_38)).symm | exact (if_pos (Int64.not_le.mp c_38)).symm)
    · refine lv_lconst (v := 1) hx hb dX6_operate_42 (by decide) ?_
      refine lv_goto (tgt := 47) hx hb dX6_operate_43 (by decide) ?_
      exact ww_lret () hx hb hr hlocks hP hD hS (Nat.le_of_ble_eq_true rfl) (Nat.le_of_ble_eq_true rfl) dX6_operate_47 (by rw [sOp, if_pos c_1_m20]; first | exact (if_neg (Int64.not_lt.mpr c_38)).symm | exact (if_pos (Int64.not_le.mp c_38)).symm)
  have c_1 : (x).toInt < -24 ∨ -20 < (x).toInt := ww_tabo (fun j9 h8 h9 e9 => by rcases (show j9 = -24 ∨ j9 = -23 ∨ j9 = -22 ∨ j9 = -21 ∨ j9 = -20 by omega) with rfl | rfl | rfl | rfl | rfl <;> first | exact c_1_m24 (Int32.toInt_inj.mp (e9.trans (by decide))) | exact c_1_m23 (Int32.toInt_inj.mp (e9.trans (by decide))) | exact c_1_m22 (Int32.toInt_inj.mp (e9.trans (by decide))) | exact c_1_m21 (Int32.toInt_inj.mp (e9.trans (by decide))) | exact c_1_m20 (Int32.toInt_inj.mp (e9.trans (by decide))))
  refine lv_tableOut (tgt := 76) hx hb dX6_operate_1 c_1 (by decide) ?_
  refine lv_lload_n hx hb dX6_operate_76 rfl (lv_at hl 1 rfl) ?_
  refine lv_lload_n hx hb dX6_operate_77 rfl (lv_at hl 2 rfl) ?_
  refine lv_lor hx hb dX6_operate_78 ?_
  exact ww_lret () hx hb hr hlocks hP hD hS (Nat.le_of_ble_eq_true rfl) (Nat.le_of_ble_eq_true rfl) dX6_operate_79 (by rw [sOp]; first | rw [if_neg (by rw [c_1_m23]; decide), if_neg (by rw [c_1_m23]; decide), if_neg (by rw [c_1_m23]; decide), if_neg (by rw [c_1_m23]; decide)] | rw [if_neg c_1_m20, if_neg c_1_m21, if_neg c_1_m22, if_neg c_1_m24])

abbrev S_met_isLockedValue (G : GX) (o : Nat) (ad : Nat → Nat) (lb : Nat) (g : Nat → Int32) (f : Nat → Int64) (q : Nat) (v : Int64) : List va_W := [[(o, wo 5 (mo ad lb g))], [(lb, wL G 208 f)]]
abbrev Q_met_isLockedValue (G : GX) (o : Nat) (ad : Nat → Nat) (lb : Nat) (g : Nat → Int32) (f : Nat → Int64) (q : Nat) (v : Int64) (A : Nat → Prop) := wQi' G (fun (r : Int32) (z : Unit) => r = if sIsL f v q = true then nI 1 else nI 0) (fun (z : Unit) => ([[(o, wo 5 (mo ad lb g))], [(lb, wL G 208 f)]] : List va_W)) A
set_option maxHeartbeats 8000000 in
set_option maxRecDepth 100000 in
theorem met_isLockedValue (l : Launch) (G : GX) (sz : Nat) (o : Nat) (ad : Nat → Nat) (lb : Nat) (g : Nat → Int32) (f : Nat → Int64) (q : Nat) (v : Int64) (h6 : f 6 = lN q) (hq : q ≤ 6) : Met l yX6_isLockedValue (ws_ yX6_isLockedValue cX6_isLockedValue 4 (some .boolean)) ({ frames := 2, cells := 0, slots := 0, locals := 42 }) (va_Pc [.ref o, .long v] (wPre G (S_met_isLockedValue G o ad lb g f q v) sz)) (Q_met_isLockedValue G o ad lb g f q v (wA (S_met_isLockedValue G o ad lb g f q v) sz)) 0 0 (wA (S_met_isLockedValue G o ad lb g f q v) sz) := by
  refine ww_start (Qf := fun A => Q_met_isLockedValue G o ad lb g f q v A) (by decide) (Nat.le_of_ble_eq_true rfl) ?_
  intro p9 e9 s m9 below9 meth9 c9 A ls hx hb hr hlocks hts hown hml hin hA hP hD hS hC hl
  have hK := hC.1
  have hl : lv_has ls 4 [(0, .ref o), (1, .long v)] := hl
  have hP : wP G.1 vwCl [[(o, wo 5 (mo ad lb g))], [(lb, wL G 208 f)]] s.heap := hP
  have hD : wD A [[(o, wo 5 (mo ad lb g))], [(lb, wL G 208 f)]] := hD
  refine lv_iconst (v := nI 0) hx hb dX6_isLockedValue_0 (by decide) ?_
  refine lv_istore_n (lv' := [(3, .int (nI 0)), (0, .ref o), (1, .long v)]) hx hb dX6_isLockedValue_1 rfl hl (by decide) rfl (fun ls hl => ?_)
  have loop_2 : ∀ (n_2 : Nat) (k : Nat) (H : Heap) (locs : List Loc) (ls : Array Slot), (k ≤ q) → (q + 1 ≤ k + n_2) → (sIsL f v k = false) →  wP G.1 vwCl [[(o, wo 5 (mo ad lb g))], [(lb, wL G 208 f)]] H → wD A [[(o, wo 5 (mo ad lb g))], [(lb, wL G 208 f)]] → va_S A s.heap H locs → lv_has ls 4 [(0, .ref o), (1, .long v), (3, .int (nI k))] → W p9 l e9 ({ frames := 2, cells := 0, slots := 0, locals := 42 } : Room) s m9 ([.ref o, .long v] : List Value).toArray below9 meth9 c9 H locs 0 0 (MQ below9 (Q_met_isLockedValue G o ad lb g f q v A) [.ref o, .long v].toArray s 0 0 A) (F0 m9 2 ls []) := by
    intro n_2
    induction n_2 with
    | zero =>
      intro k H locs ls hk hf hn9 hP hD hS hl
      exfalso; omega
    | succ n_2 ih_2 =>
      intro k H locs ls hk hf hn9 hP hD hS hl
      refine lv_iload_n hx hb dX6_isLockedValue_2 rfl (lv_at hl 2 rfl) ?_
      refine lv_aload_n hx hb dX6_isLockedValue_3 rfl (lv_at hl 0 rfl) ?_
      refine ww_ci (isC := [0, 1]) (isR := []) (Sr := []) (va_runV (As := []) (rest := [.int (nI k)]) ⟨hx, hb, hml, hown, hts⟩ (met_lockedNow l G H.size o ad lb g f q (by first | exact h6 | omega | assumption | decide)) (cwV 0 hts (lw_V q2560 q2562 qs54 q170 q2563) rfl rfl rfl (by decide +kernel) ⟨Nat.le_of_ble_eq_true rfl, Nat.le_of_ble_eq_true rfl⟩) (wx_preV hC hS hP hD hA [0, 1] (by decide) rfl (hP.at 0 rfl) ci_X6) rfl rfl hl.1 rfl (lv_room (Nat.le_of_ble_eq_true rfl)) dX6_isLockedValue_4 ⟨Nat.le_of_ble_eq_true rfl, Nat.le_of_ble_eq_true rfl⟩) hS hP hD hA rfl rfl (by decide) (by decide) (fun r_1 u_2 H locs hw_4 hP hD hS => ?_)
      have hP : wP G.1 vwCl [[(o, wo 5 (mo ad lb g))], [(lb, wL G 208 f)]] H := hP
      have hD : wD A [[(o, wo 5 (mo ad lb g))], [(lb, wL G 208 f)]] := hD
      have hw_4 : (nI q) = r_1 := Eq.symm hw_4
      subst hw_4
      refine lv_icmp_ge (tgt := 39) hx hb dX6_isLockedValue_7 (by decide) (fun c_7 => ?_) (fun c_7 => ?_)
      · have c_7 : q ≤ k := (nI_leI (a := q) (b := k) (by omega) (by omega)).mp (by exact c_7)
        have heq9 : q = k := by omega
        subst heq9
        refine lv_iconst (v := nI 0) hx hb dX6_isLockedValue_39 (by decide) ?_
        exact ww_zret () hx hb hr hlocks hP hD hS (Nat.le_of_ble_eq_true rfl) (Nat.le_of_ble_eq_true rfl) dX6_isLockedValue_40 (by decide) (by rw [hn9]; rfl)
      · have c_7 : k < q := Nat.lt_of_not_le (fun z => c_7 (by exact (nI_leI (a := q) (b := k) (by omega) (by omega)).mpr z))
        refine lv_aload_n hx hb dX6_isLockedValue_10 rfl (lv_at hl 0 rfl) ?_
        refine lv_iload_n hx hb dX6_isLockedValue_11 rfl (lv_at hl 2 rfl) ?_
        refine lv_iconst (v := nI 0) hx hb dX6_isLockedValue_12 (by decide) ?_
        refine ww_cl (isC := [0, 1]) (isR := []) (Sr := []) (va_runV (As := [.int (nI k), .int (nI 0)]) (rest := []) ⟨hx, hb, hml, hown, hts⟩ (met_ofLock l G H.size o ad lb g f k 0 (by omega) (by decide)) (cwV 2 hts (lw_V q2848 q2850 qs76 q170 q2851) rfl rfl rfl (by decide +kernel) ⟨Nat.le_of_ble_eq_true rfl, Nat.le_of_ble_eq_true rfl⟩) (wx_preV hC hS hP hD hA [0, 1] (by decide) rfl (hP.at 0 rfl) ci_X6) rfl rfl hl.1 rfl (lv_room (Nat.le_of_ble_eq_true rfl)) dX6_isLockedValue_13 ⟨Nat.le_of_ble_eq_true rfl, Nat.le_of_ble_eq_true rfl⟩) hS hP hD hA rfl rfl (by decide) (by decide) (fun r_3 u_4 H locs hw_13 hP hD hS => ?_)
        have hP : wP G.1 vwCl [[(o, wo 5 (mo ad lb g))], [(lb, wL G 208 f)]] H := hP
        have hD : wD A [[(o, wo 5 (mo ad lb g))], [(lb, wL G 208 f)]] := hD
        have hw_13 : (f (157 + 8 * k + 0)) = r_3 := Eq.symm hw_13
        subst hw_13
        refine lv_lload_n hx hb dX6_isLockedValue_16 rfl (lv_at hl 1 rfl) ?_
        refine lv_lsub hx hb dX6_isLockedValue_17 ?_
        refine va_mabs_long hx hb (by rw [hml]; exact hl.1.symm) hown (hts _ q2766) (hts _ q1182) (hts _ q154) (hts _ q1183) (Nat.le_of_ble_eq_true rfl) (Nat.le_of_ble_eq_true rfl) (Nat.le_of_ble_eq_true rfl) (Nat.le_of_ble_eq_true rfl) dX6_isLockedValue_18 ?_
        refine lv_aload_n hx hb dX6_isLockedValue_21 rfl (lv_at hl 0 rfl) ?_
        refine ww_get (v := .ref lb) (C := RX6) (T := TX6) (N := 30) hx hb hts in_X6 hown hK (hP.at 0 rfl) ci_X6 8 (by decide) (hts _ q2605) (fun _ h9 => h9) rfl dX6_isLockedValue_22 ?_
        refine lv_iconst (v := nI 3) hx hb dX6_isLockedValue_25 (by decide) ?_
        refine ww_lald hx hb hK (hP.at 1 rfl) 3 rfl (by omega) (by omega) dX6_isLockedValue_26 ?_
        refine ww_lgt (tgt := 33) hx hb dX6_isLockedValue_27 dX6_isLockedValue_28 (by decide) (fun c_27 => ?_) (fun c_27 => ?_)
        · refine lv_iinc (v := nI (k + 1)) (lv' := [(3, .int (nI (k + 1))), (0, .ref o), (1, .long v)]) hx hb dX6_isLockedValue_33 hl (k := 2) rfl (by exact nI_1 k) (by decide) rfl (fun ls hl => ?_)
          refine lv_goto (tgt := 2) hx hb dX6_isLockedValue_36 (by decide) ?_
          exact ih_2  (k + 1) _ _ _ (by omega) (by omega) (by rw [sIsL, hn9, Bool.false_or]; exact decide_eq_false (Int64.not_le.mpr c_27)) hP hD hS (lv_sub hl [1, 2, 0] rfl)
        · refine lv_iconst (v := nI 1) hx hb dX6_isLockedValue_31 (by decide) ?_
          exact ww_zret () hx hb hr hlocks hP hD hS (Nat.le_of_ble_eq_true rfl) (Nat.le_of_ble_eq_true rfl) dX6_isLockedValue_32 (by decide) (by rw [if_pos (sIsL_mono c_7 (by rw [sIsL, hn9, Bool.false_or]; exact decide_eq_true (Int64.not_lt.mp c_27)))])
  exact loop_2 (q + 1) 0 _ _ _ (by omega) (by omega) rfl hP hD hS (lv_sub hl [1, 2, 0] rfl)

abbrev S_met_property (G : GX) (o : Nat) (ad : Nat → Nat) (lb : Nat) (g : Nat → Int32) (f : Nat → Int64) (m : Nat) (q : Nat) (k : Nat) (x : Int32) (u0 : Nat → Int64) : List va_W := [[(o, wo 5 (mo ad lb g))], [(lb, wL G 208 f)], [(ad 8, wL G 6 u0)]]
abbrev Q_met_property (G : GX) (o : Nat) (ad : Nat → Nat) (lb : Nat) (g : Nat → Int32) (f : Nat → Int64) (m : Nat) (q : Nat) (k : Nat) (x : Int32) (u0 : Nat → Int64) (A : Nat → Prop) := wQl' G (fun (r : Int64) (z : Nat → Int64) => r = sPr rootM f m q k x) (fun (z : Nat → Int64) => ([[(o, wo 5 (mo ad lb g))], [(lb, wL G 208 f)], [(ad 8, wL G 6 z)]] : List va_W)) A
set_option maxHeartbeats 8000000 in
set_option maxRecDepth 100000 in
theorem met_property (l : Launch) (G : GX) (sz : Nat) (o : Nat) (ad : Nat → Nat) (lb : Nat) (g : Nat → Int32) (f : Nat → Int64) (m : Nat) (q : Nat) (k : Nat) (x : Int32) (u0 : Nat → Int64) (h4 : f 4 = lN m) (h6 : f 6 = lN q) (hm : m ≤ 6) (hq : q ≤ 6) (h1m : 1 ≤ m) (hbt : ∀ j, j + 1 < m → ¬ f (102 + j) = 0) (hk : k < m) : Met l yX6_property (ws_ yX6_property cX6_property 3 (some .long)) ({ frames := 4, cells := 0, slots := 0, locals := 109 }) (va_Pc [.ref o, .int (nI k), .int x] (wPre G (S_met_property G o ad lb g f m q k x u0) sz)) (Q_met_property G o ad lb g f m q k x u0 (wA (S_met_property G o ad lb g f m q k x u0) sz)) 0 0 (wA (S_met_property G o ad lb g f m q k x u0) sz) := by
  refine ww_start (Qf := fun A => Q_met_property G o ad lb g f m q k x u0 A) (by decide) (Nat.le_of_ble_eq_true rfl) ?_
  intro p9 e9 s m9 below9 meth9 c9 A ls hx hb hr hlocks hts hown hml hin hA hP hD hS hC hl
  have hK := hC.1
  have hl : lv_has ls 3 [(0, .ref o), (1, .int (nI k)), (2, .int x)] := hl
  have hP : wP G.1 vwCl [[(o, wo 5 (mo ad lb g))], [(lb, wL G 208 f)], [(ad 8, wL G 6 u0)]] s.heap := hP
  have hD : wD A [[(o, wo 5 (mo ad lb g))], [(lb, wL G 208 f)], [(ad 8, wL G 6 u0)]] := hD
  refine lv_iload_n hx hb dX6_property_0 rfl (lv_at hl 2 rfl) ?_
  by_cases c_1_0 : x = 0
  · refine lv_tableIn (off := 31) (tgt := 32) hx hb dX6_property_1 (by rw [c_1_0]; decide) (by rw [c_1_0]; decide) (by rw [c_1_0]; rfl) (by decide) ?_
    refine lv_iload_n hx hb dX6_property_32 rfl (lv_at hl 1 rfl) ?_
    refine lv_i2l (v := lN k) hx hb dX6_property_33 (nI_l (by omega)) ?_
    exact ww_lret u0 hx hb hr hlocks hP hD hS (Nat.le_of_ble_eq_true rfl) (Nat.le_of_ble_eq_true rfl) dX6_property_34 (by rw [sPr_0 c_1_0])
  by_cases c_1_1 : x = 1
  · refine lv_tableIn (off := 34) (tgt := 35) hx hb dX6_property_1 (by rw [c_1_1]; decide) (by rw [c_1_1]; decide) (by rw [c_1_1]; rfl) (by decide) ?_
    refine lv_aload_n hx hb dX6_property_35 rfl (lv_at hl 0 rfl) ?_
    refine lv_iload_n hx hb dX6_property_36 rfl (lv_at hl 1 rfl) ?_
    refine ww_cl (isC := [0, 1]) (isR := [2]) (Sr := [[(ad 8, wL G 6 u0)]]) (va_runV (As := [.int (nI k)]) (rest := []) ⟨hx, hb, hml, hown, hts⟩ (met_ritzValue l G s.heap.size o ad lb g f m k (by first | exact h4 | omega | assumption | decide) (by first | exact hm | omega | assumption | decide) (by first | omega | assumption | decide)) (cwV 1 hts (lw_V q2772 q2774 qs66 q170 q2775) rfl rfl rfl (by decide +kernel) ⟨Nat.le_of_ble_eq_true rfl, Nat.le_of_ble_eq_true rfl⟩) (wx_preV hC hS hP hD hA [0, 1] (by decide) rfl (hP.at 0 rfl) ci_X6) rfl rfl hl.1 rfl (lv_room (Nat.le_of_ble_eq_true rfl)) dX6_property_37 ⟨Nat.le_of_ble_eq_true rfl, Nat.le_of_ble_eq_true rfl⟩) hS hP hD hA rfl rfl (by decide) (by decide) (fun r_1 u_2 H locs hw_37 hP hD hS => ?_)
    have hP : wP G.1 vwCl [[(ad 8, wL G 6 u0)], [(o, wo 5 (mo ad lb g))], [(lb, wL G 208 f)]] H := hP
    have hD : wD A [[(ad 8, wL G 6 u0)], [(o, wo 5 (mo ad lb g))], [(lb, wL G 208 f)]] := hD
    have hw_37 : (sVal f m k) = r_1 := Eq.symm hw_37
    subst hw_37
    refine va_mabs_long hx hb (by rw [hml]; exact hl.1.symm) hown (hts _ q2766) (hts _ q1182) (hts _ q154) (hts _ q1183) (Nat.le_of_ble_eq_true rfl) (Nat.le_of_ble_eq_true rfl) (Nat.le_of_ble_eq_true rfl) (Nat.le_of_ble_eq_true rfl) dX6_property_40 ?_
    exact ww_lret u0 hx hb hr hlocks (hP.sub [1, 2, 0] rfl) (hD.sub [1, 2, 0] (by decide) rfl) hS (Nat.le_of_ble_eq_true rfl) (Nat.le_of_ble_eq_true rfl) dX6_property_43 (by rw [sPr_1 c_1_1])
  by_cases c_1_2 : x = 2
  · refine lv_tableIn (off := 43) (tgt := 44) hx hb dX6_property_1 (by rw [c_1_2]; decide) (by rw [c_1_2]; decide) (by rw [c_1_2]; rfl) (by decide) ?_
    refine lv_aload_n hx hb dX6_property_44 rfl (lv_at hl 0 rfl) ?_
    refine lv_iload_n hx hb dX6_property_45 rfl (lv_at hl 1 rfl) ?_
    refine ww_cl (isC := [0, 1]) (isR := [2]) (Sr := [[(ad 8, wL G 6 u0)]]) (va_runV (As := [.int (nI k)]) (rest := []) ⟨hx, hb, hml, hown, hts⟩ (met_ritzValue l G s.heap.size o ad lb g f m k (by first | exact h4 | omega | assumption | decide) (by first | exact hm | omega | assumption | decide) (by first | omega | assumption | decide)) (cwV 1 hts (lw_V q2772 q2774 qs66 q170 q2775) rfl rfl rfl (by decide +kernel) ⟨Nat.le_of_ble_eq_true rfl, Nat.le_of_ble_eq_true rfl⟩) (wx_preV hC hS hP hD hA [0, 1] (by decide) rfl (hP.at 0 rfl) ci_X6) rfl rfl hl.1 rfl (lv_room (Nat.le_of_ble_eq_true rfl)) dX6_property_46 ⟨Nat.le_of_ble_eq_true rfl, Nat.le_of_ble_eq_true rfl⟩) hS hP hD hA rfl rfl (by decide) (by decide) (fun r_3 u_4 H locs hw_46 hP hD hS => ?_)
    have hP : wP G.1 vwCl [[(ad 8, wL G 6 u0)], [(o, wo 5 (mo ad lb g))], [(lb, wL G 208 f)]] H := hP
    have hD : wD A [[(ad 8, wL G 6 u0)], [(o, wo 5 (mo ad lb g))], [(lb, wL G 208 f)]] := hD
    have hw_46 : (sVal f m k) = r_3 := Eq.symm hw_46
    subst hw_46
    refine lv_lconst (v := 0) hx hb dX6_property_49 (by decide) ?_
    refine ww_lle (tgt := 58) hx hb dX6_property_50 dX6_property_51 (by decide) (fun c_50 => ?_) (fun c_50 => ?_)
    · refine lv_lconst (v := 0) hx hb dX6_property_58 (by decide) ?_
      exact ww_lret u0 hx hb hr hlocks (hP.sub [1, 2, 0] rfl) (hD.sub [1, 2, 0] (by decide) rfl) hS (Nat.le_of_ble_eq_true rfl) (Nat.le_of_ble_eq_true rfl) dX6_property_59 (by rw [sPr_2 c_1_2]; first | exact (if_pos (Int64.not_le.mp c_50)).symm | exact (if_neg (Int64.not_lt.mpr c_50)).symm)
    · refine lv_lconst (v := 1) hx hb dX6_property_54 (by decide) ?_
      refine lv_goto (tgt := 59) hx hb dX6_property_55 (by decide) ?_
      exact ww_lret u0 hx hb hr hlocks (hP.sub [1, 2, 0] rfl) (hD.sub [1, 2, 0] (by decide) rfl) hS (Nat.le_of_ble_eq_true rfl) (Nat.le_of_ble_eq_true rfl) dX6_property_59 (by rw [sPr_2 c_1_2]; first | exact (if_pos (Int64.not_le.mp c_50)).symm | exact (if_neg (Int64.not_lt.mpr c_50)).symm)
  by_cases c_1_3 : x = 3
  · refine lv_tableIn (off := 59) (tgt := 60) hx hb dX6_property_1 (by rw [c_1_3]; decide) (by rw [c_1_3]; decide) (by rw [c_1_3]; rfl) (by decide) ?_
    refine lv_aload_n hx hb dX6_property_60 rfl (lv_at hl 0 rfl) ?_
    refine lv_iload_n hx hb dX6_property_61 rfl (lv_at hl 1 rfl) ?_
    refine ww_cl (isC := [0, 1, 2]) (isR := []) (Sr := []) (va_runV (As := [.int (nI k)]) (rest := []) ⟨hx, hb, hml, hown, hts⟩ (met_ritzBound l G s.heap.size o ad lb g f m k u0 (by first | exact h4 | omega | assumption | decide) (by first | exact hm | omega | assumption | decide) (by first | exact h1m | omega | assumption | decide) (by first | exact hbt | omega | assumption | decide) (by first | omega | assumption | decide) (sSh_nz f _ (by omega) hm)) (cwV 1 hts (lw_V q2787 q2789 qs68 q170 q2790) rfl rfl rfl (by decide +kernel) ⟨Nat.le_of_ble_eq_true rfl, Nat.le_of_ble_eq_true rfl⟩) (wx_preV hC hS hP hD hA [0, 1, 2] (by decide) rfl (hP.at 0 rfl) ci_X6) rfl rfl hl.1 rfl (lv_room (Nat.le_of_ble_eq_true rfl)) dX6_property_62 ⟨Nat.le_of_ble_eq_true rfl, Nat.le_of_ble_eq_true rfl⟩) hS hP hD hA rfl rfl (by decide) (by decide) (fun r_5 u_6 H locs hw_62 hP hD hS => ?_)
    have hP : wP G.1 vwCl [[(o, wo 5 (mo ad lb g))], [(lb, wL G 208 f)], [(ad 8, wL G 6 (sMap m (sSh f (sVal f m k)) u0))]] H := hP
    have hD : wD A [[(o, wo 5 (mo ad lb g))], [(lb, wL G 208 f)], [(ad 8, wL G 6 (sMap m (sSh f (sVal f m k)) u0))]] := hD
    have hw_62 : (sBnd rootM f m k) = r_5 := Eq.symm hw_62
    subst hw_62
    exact ww_lret (sMap m (sSh f (sVal f m k)) u0) hx hb hr hlocks hP hD hS (Nat.le_of_ble_eq_true rfl) (Nat.le_of_ble_eq_true rfl) dX6_property_65 (by rw [sPr_3 c_1_3])
  have c_1 : (x).toInt < 0 ∨ 3 < (x).toInt := ww_tabo (fun j9 h8 h9 e9 => by rcases (show j9 = 0 ∨ j9 = 1 ∨ j9 = 2 ∨ j9 = 3 by omega) with rfl | rfl | rfl | rfl <;> first | exact c_1_0 (Int32.toInt_inj.mp (e9.trans (by decide))) | exact c_1_1 (Int32.toInt_inj.mp (e9.trans (by decide))) | exact c_1_2 (Int32.toInt_inj.mp (e9.trans (by decide))) | exact c_1_3 (Int32.toInt_inj.mp (e9.trans (by decide))))
  refine lv_tableOut (tgt := 66) hx hb dX6_property_1 c_1 (by decide) ?_
  refine lv_aload_n hx hb dX6_property_66 rfl (lv_at hl 0 rfl) ?_
  refine lv_aload_n hx hb dX6_property_67 rfl (lv_at hl 0 rfl) ?_
  refine lv_iload_n hx hb dX6_property_68 rfl (lv_at hl 1 rfl) ?_
  refine ww_cl (isC := [0, 1]) (isR := [2]) (Sr := [[(ad 8, wL G 6 u0)]]) (va_runV (As := [.int (nI k)]) (rest := [.ref o]) ⟨hx, hb, hml, hown, hts⟩ (met_ritzValue l G s.heap.size o ad lb g f m k (by first | exact h4 | omega | assumption | decide) (by first | exact hm | omega | assumption | decide) (by first | omega | assumption | decide)) (cwV 1 hts (lw_V q2772 q2774 qs66 q170 q2775) rfl rfl rfl (by decide +kernel) ⟨Nat.le_of_ble_eq_true rfl, Nat.le_of_ble_eq_true rfl⟩) (wx_preV hC hS hP hD hA [0, 1] (by decide) rfl (hP.at 0 rfl) ci_X6) rfl rfl hl.1 rfl (lv_room (Nat.le_of_ble_eq_true rfl)) dX6_property_69 ⟨Nat.le_of_ble_eq_true rfl, Nat.le_of_ble_eq_true rfl⟩) hS hP hD hA rfl rfl (by decide) (by decide) (fun r_7 u_8 H locs hw_69 hP hD hS => ?_)
  have hP : wP G.1 vwCl [[(ad 8, wL G 6 u0)], [(o, wo 5 (mo ad lb g))], [(lb, wL G 208 f)]] H := hP
  have hD : wD A [[(ad 8, wL G 6 u0)], [(o, wo 5 (mo ad lb g))], [(lb, wL G 208 f)]] := hD
  have hw_69 : (sVal f m k) = r_7 := Eq.symm hw_69
  subst hw_69
  refine ww_ci (isC := [1, 2]) (isR := [0]) (Sr := [[(ad 8, wL G 6 u0)]]) (va_runV (As := [.long (sVal f m k)]) (rest := []) ⟨hx, hb, hml, hown, hts⟩ (met_isLockedValue l G H.size o ad lb g f q (sVal f m k) (by first | exact h6 | omega | assumption | decide) (by first | exact hq | omega | assumption | decide)) (cwV 1 hts (lw_V q3196 q3198 qs128 q170 q3199) rfl rfl rfl (by decide +kernel) ⟨Nat.le_of_ble_eq_true rfl, Nat.le_of_ble_eq_true rfl⟩) (wx_preV hC hS hP hD hA [1, 2] (by decide) rfl (hP.at 1 rfl) ci_X6) rfl rfl hl.1 rfl (lv_room (Nat.le_of_ble_eq_true rfl)) dX6_property_72 ⟨Nat.le_of_ble_eq_true rfl, Nat.le_of_ble_eq_true rfl⟩) hS hP hD hA rfl rfl (by decide) (by decide) (fun r_9 u_10 H locs hw_72 hP hD hS => ?_)
  have hP : wP G.1 vwCl [[(ad 8, wL G 6 u0)], [(o, wo 5 (mo ad lb g))], [(lb, wL G 208 f)]] H := hP
  have hD : wD A [[(ad 8, wL G 6 u0)], [(o, wo 5 (mo ad lb g))], [(lb, wL G 208 f)]] := hD
  have hw_72 : (if sIsL f (sVal f m k) q = true then nI 1 else nI 0) = r_9 := Eq.symm hw_72
  subst hw_72
  refine lv_if_eq (tgt := 82) hx hb dX6_property_75 (by decide) (fun c_75 => ?_) (fun c_75 => ?_)
  · have hs9 : ¬ sIsL f (sVal f m k) q = true := fun z9 => absurd c_75 (by rw [if_pos z9]; decide)
    refine lv_lconst (v := 0) hx hb dX6_property_82 (by decide) ?_
    exact ww_lret u0 hx hb hr hlocks (hP.sub [1, 2, 0] rfl) (hD.sub [1, 2, 0] (by decide) rfl) hS (Nat.le_of_ble_eq_true rfl) (Nat.le_of_ble_eq_true rfl) dX6_property_83 (by rw [sPr_4 c_1_0 c_1_1 c_1_2 c_1_3]; first | exact (if_pos hs9).symm | exact (if_neg hs9).symm)
  · have hs9 : sIsL f (sVal f m k) q = true := Decidable.byContradiction (fun z9 => c_75 (by rw [if_neg z9]; rfl))
    refine lv_lconst (v := 1) hx hb dX6_property_78 (by decide) ?_
    refine lv_goto (tgt := 83) hx hb dX6_property_79 (by decide) ?_
    exact ww_lret u0 hx hb hr hlocks (hP.sub [1, 2, 0] rfl) (hD.sub [1, 2, 0] (by decide) rfl) hS (Nat.le_of_ble_eq_true rfl) (Nat.le_of_ble_eq_true rfl) dX6_property_83 (by rw [sPr_4 c_1_0 c_1_1 c_1_2 c_1_3]; first | exact (if_pos hs9).symm | exact (if_neg hs9).symm)

abbrev S_met_holdsFor (G : GX) (o : Nat) (ad : Nat → Nat) (lb : Nat) (g : Nat → Int32) (f : Nat → Int64) (m : Nat) (q : Nat) (k : Nat) (C : Nat → Int32) (cc : Nat) (t0 : Nat → Int64) (u0 : Nat → Int64) : List va_W := [[(o, wo 5 (mo ad lb g))], [(lb, wL G 208 f)], [(ad 8, wL G 6 u0)], [(ad 13, wI G 200 C)], [(ad 14, wL G 200 t0)]]
abbrev Q_met_holdsFor (G : GX) (o : Nat) (ad : Nat → Nat) (lb : Nat) (g : Nat → Int32) (f : Nat → Int64) (m : Nat) (q : Nat) (k : Nat) (C : Nat → Int32) (cc : Nat) (t0 : Nat → Int64) (u0 : Nat → Int64) (A : Nat → Prop) := wQi' G (fun (r : Int32) (z : (Nat → Int64) × (Nat → Int64)) => r = if (rRun (fun x => sPr rootM f m q k x) C (t0, 0) cc).1 0 = 1 then nI 1 else nI 0) (fun (z : (Nat → Int64) × (Nat → Int64)) => ([[(o, wo 5 (mo ad lb g))], [(lb, wL G 208 f)], [(ad 8, wL G 6 z.1)], [(ad 13, wI G 200 C)], [(ad 14, wL G 200 z.2)]] : List va_W)) A
set_option maxHeartbeats 8000000 in
set_option maxRecDepth 100000 in
theorem met_holdsFor (l : Launch) (G : GX) (sz : Nat) (o : Nat) (ad : Nat → Nat) (lb : Nat) (g : Nat → Int32) (f : Nat → Int64) (m : Nat) (q : Nat) (k : Nat) (C : Nat → Int32) (cc : Nat) (t0 : Nat → Int64) (u0 : Nat → Int64) (h4 : f 4 = lN m) (h6 : f 6 = lN q) (hm : m ≤ 6) (hq : q ≤ 6) (h1m : 1 ≤ m) (hbt : ∀ j, j + 1 < m → ¬ f (102 + j) = 0) (hk : k < m) (hgc : g 13 = nI cc) (hc2 : cc ≤ 200) (hok : rOK (fun x => sPr rootM f m q k x) C (t0, 0) cc) : Met l yX6_holdsFor (ws_ yX6_holdsFor cX6_holdsFor 5 (some .boolean)) ({ frames := 5, cells := 0, slots := 0, locals := 131 }) (va_Pc [.ref o, .int (nI k)] (wPre G (S_met_holdsFor G o ad lb g f m q k C cc t0 u0) sz)) (Q_met_holdsFor G o ad lb g f m q k C cc t0 u0 (wA (S_met_holdsFor G o ad lb g f m q k C cc t0 u0) sz)) 0 0 (wA (S_met_holdsFor G o ad lb g f m q k C cc t0 u0) sz) := by
  refine ww_start (Qf := fun A => Q_met_holdsFor G o ad lb g f m q k C cc t0 u0 A) (by decide) (Nat.le_of_ble_eq_true rfl) ?_
  intro p9 e9 s m9 below9 meth9 c9 A ls hx hb hr hlocks hts hown hml hin hA hP hD hS hC hl
  have hK := hC.1
  have hl : lv_has ls 5 [(0, .ref o), (1, .int (nI k))] := hl
  have hP : wP G.1 vwCl [[(o, wo 5 (mo ad lb g))], [(lb, wL G 208 f)], [(ad 8, wL G 6 u0)], [(ad 13, wI G 200 C)], [(ad 14, wL G 200 t0)]] s.heap := hP
  have hD : wD A [[(o, wo 5 (mo ad lb g))], [(lb, wL G 208 f)], [(ad 8, wL G 6 u0)], [(ad 13, wI G 200 C)], [(ad 14, wL G 200 t0)]] := hD
  refine lv_iconst (v := nI 0) hx hb dX6_holdsFor_0 (by decide) ?_
  refine lv_istore_n (lv' := [(2, .int (nI 0)), (0, .ref o), (1, .int (nI k))]) hx hb dX6_holdsFor_1 rfl hl (by decide) rfl (fun ls hl => ?_)
  refine lv_iconst (v := nI 0) hx hb dX6_holdsFor_2 (by decide) ?_
  refine lv_istore_n (lv' := [(3, .int (nI 0)), (2, .int (nI 0)), (0, .ref o), (1, .int (nI k))]) hx hb dX6_holdsFor_3 rfl hl (by decide) rfl (fun ls hl => ?_)
  have loop_4 : ∀ (n_4 : Nat) (j : Nat) (w : Nat → Int64) (i : Nat) (y : Nat → Int64) (H : Heap) (locs : List Loc) (ls : Array Slot), (j ≤ cc) → (cc + 1 ≤ j + n_4) → ((rRun (fun x => sPr rootM f m q k x) C (t0, 0) j) = (w, i)) →  wP G.1 vwCl [[(o, wo 5 (mo ad lb g))], [(lb, wL G 208 f)], [(ad 8, wL G 6 y)], [(ad 13, wI G 200 C)], [(ad 14, wL G 200 w)]] H → wD A [[(o, wo 5 (mo ad lb g))], [(lb, wL G 208 f)], [(ad 8, wL G 6 y)], [(ad 13, wI G 200 C)], [(ad 14, wL G 200 w)]] → va_S A s.heap H locs → lv_has ls 5 [(0, .ref o), (1, .int (nI k)), (2, .int (nI i)), (3, .int (nI j))] → W p9 l e9 ({ frames := 5, cells := 0, slots := 0, locals := 131 } : Room) s m9 ([.ref o, .int (nI k)] : List Value).toArray below9 meth9 c9 H locs 0 0 (MQ below9 (Q_met_holdsFor G o ad lb g f m q k C cc t0 u0 A) [.ref o, .int (nI k)].toArray s 0 0 A) (F0 m9 4 ls []) := by
    intro n_4
    induction n_4 with
    | zero =>
      intro j w i y H locs ls hj hf hI hP hD hS hl
      exfalso; omega
    | succ n_4 ih_4 =>
      intro j w i y H locs ls hj hf hI hP hD hS hl
      refine lv_iload_n hx hb dX6_holdsFor_4 rfl (lv_at hl 3 rfl) ?_
      refine lv_aload_n hx hb dX6_holdsFor_5 rfl (lv_at hl 0 rfl) ?_
      refine ww_get (v := .int (g 13)) (C := RX6) (T := TX6) (N := 30) hx hb hts in_X6 hown hK (hP.at 0 rfl) ci_X6 29 (by decide) (hts _ q2626) (fun _ h9 => h9) rfl dX6_holdsFor_6 ?_
      refine ww_topi (y := nI cc) hgc ?_
      refine lv_icmp_ge (tgt := 123) hx hb dX6_holdsFor_9 (by decide) (fun c_9 => ?_) (fun c_9 => ?_)
      · have c_9 : cc ≤ j := (nI_leI (a := cc) (b := j) (by omega) (by omega)).mp (by exact c_9)
        have heq9 : cc = j := by omega
        subst heq9
        refine lv_aload_n hx hb dX6_holdsFor_123 rfl (lv_at hl 0 rfl) ?_
        refine ww_get (v := .ref (ad 14)) (C := RX6) (T := TX6) (N := 30) hx hb hts in_X6 hown hK (hP.at 0 rfl) ci_X6 28 (by decide) (hts _ q2625) (fun _ h9 => h9) rfl dX6_holdsFor_124 ?_
        refine lv_iconst (v := nI 0) hx hb dX6_holdsFor_127 (by decide) ?_
        refine ww_lald hx hb hK (hP.at 4 rfl) 0 rfl (by omega) (by omega) dX6_holdsFor_128 ?_
        refine lv_lconst (v := 1) hx hb dX6_holdsFor_129 (by decide) ?_
        refine ww_lne (tgt := 138) hx hb dX6_holdsFor_130 dX6_holdsFor_131 (by decide) (fun c_130 => ?_) (fun c_130 => ?_)
        · refine lv_iconst (v := nI 0) hx hb dX6_holdsFor_138 (by decide) ?_
          exact ww_zret (y, w) hx hb hr hlocks (by (try dsimp only); exact hP) (by (try dsimp only); exact hD) hS (Nat.le_of_ble_eq_true rfl) (Nat.le_of_ble_eq_true rfl) dX6_holdsFor_139 rfl (by rw [hI]; dsimp only; first | exact (if_pos c_130).symm | exact (if_neg c_130).symm)
        · refine lv_iconst (v := nI 1) hx hb dX6_holdsFor_134 (by decide) ?_
          refine lv_goto (tgt := 139) hx hb dX6_holdsFor_135 (by decide) ?_
          exact ww_zret (y, w) hx hb hr hlocks (by (try dsimp only); exact hP) (by (try dsimp only); exact hD) hS (Nat.le_of_ble_eq_true rfl) (Nat.le_of_ble_eq_true rfl) dX6_holdsFor_139 rfl (by rw [hI]; dsimp only; first | exact (if_pos c_130).symm | exact (if_neg c_130).symm)
      · have c_9 : j < cc := Nat.lt_of_not_le (fun z => c_9 (by exact (nI_leI (a := cc) (b := j) (by omega) (by omega)).mpr z))
        have ht9 := rRun_le (P := (fun x => sPr rootM f m q k x)) (C := C) (s := (t0, 0)) j
        rw [hI] at ht9
        dsimp only at ht9
        obtain ⟨w1, w2⟩ := hok j c_9
        rw [hI] at w1 w2
        dsimp only at w1 w2
        refine lv_aload_n hx hb dX6_holdsFor_12 rfl (lv_at hl 0 rfl) ?_
        refine ww_get (v := .ref (ad 13)) (C := RX6) (T := TX6) (N := 30) hx hb hts in_X6 hown hK (hP.at 0 rfl) ci_X6 27 (by decide) (hts _ q2624) (fun _ h9 => h9) rfl dX6_holdsFor_13 ?_
        refine lv_iload_n hx hb dX6_holdsFor_16 rfl (lv_at hl 3 rfl) ?_
        refine ww_iald hx hb hK (hP.at 3 rfl) j rfl (by omega) (by omega) dX6_holdsFor_17 ?_
        refine lv_istore (lv' := [(4, .int (C j)), (0, .ref o), (1, .int (nI k)), (2, .int (nI i)), (3, .int (nI j))]) hx hb dX6_holdsFor_18 hl (by decide) rfl (fun ls hl => ?_)
        refine lv_iload hx hb dX6_holdsFor_20 (lv_at hl 0 rfl) ?_
        refine lv_bipush (v := (-23)) hx hb dX6_holdsFor_22 (by decide) ?_
        refine lv_icmp_ne (tgt := 48) hx hb dX6_holdsFor_24 (by decide) (fun c_24 => ?_) (fun c_24 => ?_)
        · refine lv_iload hx hb dX6_holdsFor_48 (lv_at hl 0 rfl) ?_
          refine lv_bipush (v := (-20)) hx hb dX6_holdsFor_50 (by decide) ?_
          refine lv_icmp_le (tgt := 87) hx hb dX6_holdsFor_52 (by decide) (fun c_52 => ?_) (fun c_52 => ?_)
          · have w2 := w2 c_24 (Int32.not_lt.mpr c_52)
            refine lv_iinc (v := nI (i - 1)) (lv' := [(2, .int (nI (i - 1))), (4, .int (C j)), (0, .ref o), (1, .int (nI k)), (3, .int (nI j))]) hx hb dX6_holdsFor_87 hl (k := 3) rfl ((m1_add _).trans (pk_sub (by omega))) (by decide) rfl (fun ls hl => ?_)
            refine lv_aload_n hx hb dX6_holdsFor_90 rfl (lv_at hl 2 rfl) ?_
            refine ww_get (v := .ref (ad 14)) (C := RX6) (T := TX6) (N := 30) hx hb hts in_X6 hown hK (hP.at 0 rfl) ci_X6 28 (by decide) (hts _ q2625) (fun _ h9 => h9) rfl dX6_holdsFor_91 ?_
            refine lv_iload_n hx hb dX6_holdsFor_94 rfl (lv_at hl 0 rfl) ?_
            refine lv_iconst (v := nI 1) hx hb dX6_holdsFor_95 (by decide) ?_
            refine lv_isub hx hb dX6_holdsFor_96 ?_
            refine ww_topi (pk_sub (a := i - 1) (b := 1) (by omega)) ?_
            refine lv_iload hx hb dX6_holdsFor_97 (lv_at hl 1 rfl) ?_
            refine lv_aload_n hx hb dX6_holdsFor_99 rfl (lv_at hl 2 rfl) ?_
            refine ww_get (v := .ref (ad 14)) (C := RX6) (T := TX6) (N := 30) hx hb hts in_X6 hown hK (hP.at 0 rfl) ci_X6 28 (by decide) (hts _ q2625) (fun _ h9 => h9) rfl dX6_holdsFor_100 ?_
            refine lv_iload_n hx hb dX6_holdsFor_103 rfl (lv_at hl 0 rfl) ?_
            refine lv_iconst (v := nI 1) hx hb dX6_holdsFor_104 (by decide) ?_
            refine lv_isub hx hb dX6_holdsFor_105 ?_
            refine ww_topi (pk_sub (a := i - 1) (b := 1) (by omega)) ?_
            refine ww_lald hx hb hK (hP.at 4 rfl) ((i - 1) - 1) rfl (by omega) (by omega) dX6_holdsFor_106 ?_
            refine lv_aload_n hx hb dX6_holdsFor_107 rfl (lv_at hl 2 rfl) ?_
            refine ww_get (v := .ref (ad 14)) (C := RX6) (T := TX6) (N := 30) hx hb hts in_X6 hown hK (hP.at 0 rfl) ci_X6 28 (by decide) (hts _ q2625) (fun _ h9 => h9) rfl dX6_holdsFor_108 ?_
            refine lv_iload_n hx hb dX6_holdsFor_111 rfl (lv_at hl 0 rfl) ?_
            refine ww_lald hx hb hK (hP.at 4 rfl) (i - 1) rfl (by omega) (by omega) dX6_holdsFor_112 ?_
            refine ww_cl (isC := []) (isR := [0, 1, 2, 3, 4]) (Sr := [[(o, wo 5 (mo ad lb g))], [(lb, wL G 208 f)], [(ad 8, wL G 6 y)], [(ad 13, wI G 200 C)], [(ad 14, wL G 200 w)]]) (va_runS (As := [.int (C j), .long (w ((i - 1) - 1)), .long (w (i - 1))]) (rest := [.int (nI ((i - 1) - 1)), .ref (ad 14)]) ⟨hx, hb, hml, hown, hts⟩ (met_operate l G H.size (C j) (w ((i - 1) - 1)) (w (i - 1)) ) (va_cwS 3 hts (lw_S q3200 q3201 q170 q3202) rfl rfl rfl (by decide +kernel) ⟨Nat.le_of_ble_eq_true rfl, Nat.le_of_ble_eq_true rfl⟩) (wx_preS hC hS hP hD hA [] (by decide) rfl) rfl rfl hl.1 rfl (lv_room (Nat.le_of_ble_eq_true rfl)) dX6_holdsFor_113 ⟨Nat.le_of_ble_eq_true rfl, Nat.le_of_ble_eq_true rfl⟩) hS hP hD hA rfl rfl (by decide) (by decide) (fun r_1 u_2 H locs hw_113 hP hD hS => ?_)
            have hP : wP G.1 vwCl [[(o, wo 5 (mo ad lb g))], [(lb, wL G 208 f)], [(ad 8, wL G 6 y)], [(ad 13, wI G 200 C)], [(ad 14, wL G 200 w)]] H := hP
            have hD : wD A [[(o, wo 5 (mo ad lb g))], [(lb, wL G 208 f)], [(ad 8, wL G 6 y)], [(ad 13, wI G 200 C)], [(ad 14, wL G 200 w)]] := hD
            have hw_113 : (sOp (C j) (w ((i - 1) - 1)) (w (i - 1))) = r_1 := Eq.symm hw_113
            subst hw_113
            refine ww_last hx hb hK hP hD hS 4 rfl ((i - 1) - 1) rfl (by omega) (by omega) dX6_holdsFor_116 (fun H locs hP hD hS => ?_)
            have hP : wP G.1 vwCl [[(o, wo 5 (mo ad lb g))], [(lb, wL G 208 f)], [(ad 8, wL G 6 y)], [(ad 13, wI G 200 C)], [(ad 14, wL G 200 (vp_updL w ((i - 1) - 1) (sOp (C j) (w ((i - 1) - 1)) (w (i - 1)))))]] H := hP
            have hD : wD A [[(o, wo 5 (mo ad lb g))], [(lb, wL G 208 f)], [(ad 8, wL G 6 y)], [(ad 13, wI G 200 C)], [(ad 14, wL G 200 (vp_updL w ((i - 1) - 1) (sOp (C j) (w ((i - 1) - 1)) (w (i - 1)))))]] := hD
            refine lv_iinc (v := nI (j + 1)) (lv' := [(3, .int (nI (j + 1))), (2, .int (nI (i - 1))), (4, .int (C j)), (0, .ref o), (1, .int (nI k))]) hx hb dX6_holdsFor_117 hl (k := 4) rfl (by exact nI_1 j) (by decide) rfl (fun ls hl => ?_)
            refine lv_goto (tgt := 4) hx hb dX6_holdsFor_120 (by decide) ?_
            exact ih_4  (j + 1) (vp_updL w ((i - 1) - 1) (sOp (C j) (w ((i - 1) - 1)) (w (i - 1)))) (i - 1) y _ _ _ (by omega) (by omega) (by rw [rRun, hI, rSt]; first | rw [if_pos c_24] | rw [if_neg c_24, if_neg (Int32.not_lt.mpr c_52)] | (rw [if_neg c_24, if_pos (Int32.not_le.mp c_52)]; first | rw [if_pos (Int32.not_lt.mp c_62)] | rw [if_neg (fun z9 => Int32.not_lt.mpr z9 c_62)])) hP hD hS (by skip; exact (lv_sub hl [3, 4, 1, 0] rfl))
          · refine lv_aload_n hx hb dX6_holdsFor_55 rfl (lv_at hl 1 rfl) ?_
            refine ww_get (v := .ref (ad 14)) (C := RX6) (T := TX6) (N := 30) hx hb hts in_X6 hown hK (hP.at 0 rfl) ci_X6 28 (by decide) (hts _ q2625) (fun _ h9 => h9) rfl dX6_holdsFor_56 ?_
            refine lv_iload_n hx hb dX6_holdsFor_59 rfl (lv_at hl 3 rfl) ?_
            refine lv_iload hx hb dX6_holdsFor_60 (lv_at hl 0 rfl) ?_
            refine lv_if_lt (tgt := 71) hx hb dX6_holdsFor_62 (by decide) (fun c_62 => ?_) (fun c_62 => ?_)
            · refine lv_aload_n hx hb dX6_holdsFor_71 rfl (lv_at hl 1 rfl) ?_
              refine lv_iload_n hx hb dX6_holdsFor_72 rfl (lv_at hl 2 rfl) ?_
              refine lv_iconst (v := (-1)) hx hb dX6_holdsFor_73 (by decide) ?_
              refine lv_iload hx hb dX6_holdsFor_74 (lv_at hl 0 rfl) ?_
              refine lv_isub hx hb dX6_holdsFor_76 ?_
              refine ww_cl (isC := [0, 1, 2]) (isR := [3, 4]) (Sr := [[(ad 13, wI G 200 C)], [(ad 14, wL G 200 w)]]) (va_runV (As := [.int (nI k), .int ((-1) - (C j))]) (rest := [.int (nI i), .ref (ad 14)]) ⟨hx, hb, hml, hown, hts⟩ (met_property l G H.size o ad lb g f m q k ((-1) - C j) y (by first | exact h4 | omega | assumption | decide) (by first | exact h6 | omega | assumption | decide) (by first | exact hm | omega | assumption | decide) (by first | exact hq | omega | assumption | decide) (by first | exact h1m | omega | assumption | decide) (by first | exact hbt | omega | assumption | decide) (by first | exact hk | omega | assumption | decide)) (cwV 2 hts (lw_V q3192 q3194 qs127 q170 q3195) rfl rfl rfl (by decide +kernel) ⟨Nat.le_of_ble_eq_true rfl, Nat.le_of_ble_eq_true rfl⟩) (wx_preV hC hS hP hD hA [0, 1, 2] (by decide) rfl (hP.at 0 rfl) ci_X6) rfl rfl hl.1 rfl (lv_room (Nat.le_of_ble_eq_true rfl)) dX6_holdsFor_77 ⟨Nat.le_of_ble_eq_true rfl, Nat.le_of_ble_eq_true rfl⟩) hS hP hD hA rfl rfl (by decide) (by decide) (fun r_3 u_4 H locs hw_77 hP hD hS => ?_)
              have hP : wP G.1 vwCl [[(ad 13, wI G 200 C)], [(ad 14, wL G 200 w)], [(o, wo 5 (mo ad lb g))], [(lb, wL G 208 f)], [(ad 8, wL G 6 u_4)]] H := hP
              have hD : wD A [[(ad 13, wI G 200 C)], [(ad 14, wL G 200 w)], [(o, wo 5 (mo ad lb g))], [(lb, wL G 208 f)], [(ad 8, wL G 6 u_4)]] := hD
              have hw_77 : (sPr rootM f m q k ((-1) - C j)) = r_3 := Eq.symm hw_77
              subst hw_77
              refine ww_last hx hb hK hP hD hS 1 rfl i rfl (by omega) (by omega) dX6_holdsFor_80 (fun H locs hP hD hS => ?_)
              have hP : wP G.1 vwCl [[(ad 13, wI G 200 C)], [(ad 14, wL G 200 (vp_updL w i (sPr rootM f m q k ((-1) - C j))))], [(o, wo 5 (mo ad lb g))], [(lb, wL G 208 f)], [(ad 8, wL G 6 u_4)]] H := hP
              have hD : wD A [[(ad 13, wI G 200 C)], [(ad 14, wL G 200 (vp_updL w i (sPr rootM f m q k ((-1) - C j))))], [(o, wo 5 (mo ad lb g))], [(lb, wL G 208 f)], [(ad 8, wL G 6 u_4)]] := hD
              refine lv_iinc (v := nI (i + 1)) (lv' := [(2, .int (nI (i + 1))), (4, .int (C j)), (0, .ref o), (1, .int (nI k)), (3, .int (nI j))]) hx hb dX6_holdsFor_81 hl (k := 3) rfl (by exact nI_1 i) (by decide) rfl (fun ls hl => ?_)
              refine lv_goto (tgt := 117) hx hb dX6_holdsFor_84 (by decide) ?_
              refine lv_iinc (v := nI (j + 1)) (lv' := [(3, .int (nI (j + 1))), (2, .int (nI (i + 1))), (4, .int (C j)), (0, .ref o), (1, .int (nI k))]) hx hb dX6_holdsFor_117 hl (k := 4) rfl (by exact nI_1 j) (by decide) rfl (fun ls hl => ?_)
              refine lv_goto (tgt := 4) hx hb dX6_holdsFor_120 (by decide) ?_
              exact ih_4  (j + 1) (vp_updL w i (sPr rootM f m q k ((-1) - C j))) (i + 1) u_4 _ _ _ (by omega) (by omega) (by rw [rRun, hI, rSt]; first | rw [if_pos c_24] | rw [if_neg c_24, if_neg (Int32.not_lt.mpr c_52)] | (rw [if_neg c_24, if_pos (Int32.not_le.mp c_52)]; first | rw [if_pos (Int32.not_lt.mp c_62)] | rw [if_neg (fun z9 => Int32.not_lt.mpr z9 c_62)])) (hP.sub [2, 3, 4, 0, 1] rfl) (hD.sub [2, 3, 4, 0, 1] (by decide) rfl) hS (by skip; exact (lv_sub hl [3, 4, 1, 0] rfl))
            · refine lv_iload hx hb dX6_holdsFor_65 (lv_at hl 0 rfl) ?_
              refine lv_i2l (v := (C j).toInt64) hx hb dX6_holdsFor_67 rfl ?_
              refine lv_goto (tgt := 80) hx hb dX6_holdsFor_68 (by decide) ?_
              refine ww_last hx hb hK hP hD hS 4 rfl i rfl (by omega) (by omega) dX6_holdsFor_80 (fun H locs hP hD hS => ?_)
              have hP : wP G.1 vwCl [[(o, wo 5 (mo ad lb g))], [(lb, wL G 208 f)], [(ad 8, wL G 6 y)], [(ad 13, wI G 200 C)], [(ad 14, wL G 200 (vp_updL w i ((C j).toInt64)))]] H := hP
              have hD : wD A [[(o, wo 5 (mo ad lb g))], [(lb, wL G 208 f)], [(ad 8, wL G 6 y)], [(ad 13, wI G 200 C)], [(ad 14, wL G 200 (vp_updL w i ((C j).toInt64)))]] := hD
              refine lv_iinc (v := nI (i + 1)) (lv' := [(2, .int (nI (i + 1))), (4, .int (C j)), (0, .ref o), (1, .int (nI k)), (3, .int (nI j))]) hx hb dX6_holdsFor_81 hl (k := 3) rfl (by exact nI_1 i) (by decide) rfl (fun ls hl => ?_)
              refine lv_goto (tgt := 117) hx hb dX6_holdsFor_84 (by decide) ?_
              refine lv_iinc (v := nI (j + 1)) (lv' := [(3, .int (nI (j + 1))), (2, .int (nI (i + 1))), (4, .int (C j)), (0, .ref o), (1, .int (nI k))]) hx hb dX6_holdsFor_117 hl (k := 4) rfl (by exact nI_1 j) (by decide) rfl (fun ls hl => ?_)
              refine lv_goto (tgt := 4) hx hb dX6_holdsFor_120 (by decide) ?_
              exact ih_4  (j + 1) (vp_updL w i ((C j).toInt64)) (i + 1) y _ _ _ (by omega) (by omega) (by rw [rRun, hI, rSt]; first | rw [if_pos c_24] | rw [if_neg c_24, if_neg (Int32.not_lt.mpr c_52)] | (rw [if_neg c_24, if_pos (Int32.not_le.mp c_52)]; first | rw [if_pos (Int32.not_lt.mp c_62)] | rw [if_neg (fun z9 => Int32.not_lt.mpr z9 c_62)])) hP hD hS (by skip; exact (lv_sub hl [3, 4, 1, 0] rfl))
        · have w1 := w1 c_24
          refine lv_aload_n hx hb dX6_holdsFor_27 rfl (lv_at hl 1 rfl) ?_
          refine ww_get (v := .ref (ad 14)) (C := RX6) (T := TX6) (N := 30) hx hb hts in_X6 hown hK (hP.at 0 rfl) ci_X6 28 (by decide) (hts _ q2625) (fun _ h9 => h9) rfl dX6_holdsFor_28 ?_
          refine lv_iload_n hx hb dX6_holdsFor_31 rfl (lv_at hl 3 rfl) ?_
          refine lv_iconst (v := nI 1) hx hb dX6_holdsFor_32 (by decide) ?_
          refine lv_isub hx hb dX6_holdsFor_33 ?_
          refine ww_topi (pk_sub (a := i) (b := 1) (by omega)) ?_
          refine lv_lconst (v := 1) hx hb dX6_holdsFor_34 (by decide) ?_
          refine lv_aload_n hx hb dX6_holdsFor_35 rfl (lv_at hl 1 rfl) ?_
          refine ww_get (v := .ref (ad 14)) (C := RX6) (T := TX6) (N := 30) hx hb hts in_X6 hown hK (hP.at 0 rfl) ci_X6 28 (by decide) (hts _ q2625) (fun _ h9 => h9) rfl dX6_holdsFor_36 ?_
          refine lv_iload_n hx hb dX6_holdsFor_39 rfl (lv_at hl 3 rfl) ?_
          refine lv_iconst (v := nI 1) hx hb dX6_holdsFor_40 (by decide) ?_
          refine lv_isub hx hb dX6_holdsFor_41 ?_
          refine ww_topi (pk_sub (a := i) (b := 1) (by omega)) ?_
          refine ww_lald hx hb hK (hP.at 4 rfl) (i - 1) rfl (by omega) (by omega) dX6_holdsFor_42 ?_
          refine lv_lsub hx hb dX6_holdsFor_43 ?_
          refine ww_last hx hb hK hP hD hS 4 rfl (i - 1) rfl (by omega) (by omega) dX6_holdsFor_44 (fun H locs hP hD hS => ?_)
          have hP : wP G.1 vwCl [[(o, wo 5 (mo ad lb g))], [(lb, wL G 208 f)], [(ad 8, wL G 6 y)], [(ad 13, wI G 200 C)], [(ad 14, wL G 200 (vp_updL w (i - 1) ((1 : Int64) - (w (i - 1)))))]] H := hP
          have hD : wD A [[(o, wo 5 (mo ad lb g))], [(lb, wL G 208 f)], [(ad 8, wL G 6 y)], [(ad 13, wI G 200 C)], [(ad 14, wL G 200 (vp_updL w (i - 1) ((1 : Int64) - (w (i - 1)))))]] := hD
          refine lv_goto (tgt := 117) hx hb dX6_holdsFor_45 (by decide) ?_
          refine lv_iinc (v := nI (j + 1)) (lv' := [(3, .int (nI (j + 1))), (4, .int (C j)), (0, .ref o), (1, .int (nI k)), (2, .int (nI i))]) hx hb dX6_holdsFor_117 hl (k := 4) rfl (by exact nI_1 j) (by decide) rfl (fun ls hl => ?_)
          refine lv_goto (tgt := 4) hx hb dX6_holdsFor_120 (by decide) ?_
          exact ih_4  (j + 1) (vp_updL w (i - 1) ((1 : Int64) - (w (i - 1)))) i y _ _ _ (by omega) (by omega) (by rw [rRun, hI, rSt]; first | rw [if_pos c_24] | rw [if_neg c_24, if_neg (Int32.not_lt.mpr c_52)] | (rw [if_neg c_24, if_pos (Int32.not_le.mp c_52)]; first | rw [if_pos (Int32.not_lt.mp c_62)] | rw [if_neg (fun z9 => Int32.not_lt.mpr z9 c_62)])) hP hD hS (by skip; exact (lv_sub hl [2, 3, 4, 0] rfl))
  exact loop_4 (cc + 1) 0 t0 0 u0 _ _ _ (by omega) (by omega) rfl hP hD hS (lv_sub hl [2, 3, 1, 0] rfl)

