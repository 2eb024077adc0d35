/-! WHAT THE LAW'S CASES OWE, and the law's loop out of it -/
set_option maxRecDepth 100000
def LA (s : State) : Nat → Prop := fun x => s.heap.size ≤ x
/-- what holds all through the law -/
def LWS (K : oK) (l : Launch) (p : Program) (m : MethodId) (c : Code) (s : State) (args : Array Value) (b L : Nat) (xs : Nat → Int32) : Prop :=
  CallFix p m c cL_law 4 s args lw_all "EventCountersLaw" ∧ va_X b L xs s s.heap ∧ b < s.heap.size ∧ OLD K (LA s) s s.heap ∧ ORF K s ∧ OZ (LA s) s s.heap ∧ NCS s ∧ ∀ e : Env, l.admits e → e.platform.stackTraces = false
def LH (D : va_G) (dA : Nat → ClassId) (o : Nat) (q : Nat → Nat) (oM : Nat) (qM : Nat → Nat) (S : sX) (M : sM) (s : State) (H : Heap) : Prop := HX D dA (WX o q dA S ++ WM oM qM (dA 0) (dA 1) M) S.2.2.2 (LA s) s H []
theorem lc_self (r : Int64) : lg_cmp r r = 0 := by simp [lg_cmp]

def OB_feed (N : Nat) (INV : sX → sM → Prop) : Prop := ∀ (S : sX) (M : sM) (x1 : Int64), INV S M → ∃ (r : Int32) (S1 : sX) (M1 : sM), fX0_feed N S x1 = some (r, S1) ∧ fX3_feed N M x1 = some (r, M1) ∧ INV S1 M1
def OB_end (N : Nat) (INV : sX → sM → Prop) : Prop := ∀ (S : sX) (M : sM) (x1 : Int32), INV S M → ∃ (r : Int32) (S1 : sX) (M1 : sM), fX0_end S x1 = some (r, S1) ∧ fX3_end M x1 = some (r, M1) ∧ INV S1 M1
def OB_program (N : Nat) (INV : sX → sM → Prop) : Prop := ∀ (S : sX) (M : sM), INV S M → ∃ (r : Int32) (M1 : sM), fX3_program N M = some (r, M1) ∧ fX0_program N (fun r' S1 => r' = r ∧ INV S1 M1) S 9000 110000
def OB_fault (N : Nat) (INV : sX → sM → Prop) : Prop := ∀ (S : sX) (M : sM), INV S M → ∃ (r : Int32), fX0_fault S = some r ∧ fX3_fault M = some r
def OB_line (N : Nat) (INV : sX → sM → Prop) : Prop := ∀ (S : sX) (M : sM) (x1 : Int32) (x2 : Int32), INV S M → ∃ (r : Int32), fX0_line S x1 x2 = some r ∧ fX3_line N M x1 x2 = some r
def OB_step (N : Nat) (INV : sX → sM → Prop) : Prop := ∀ (S : sX) (M : sM) (x1 : Int32), INV S M → ∃ (r : Int32), fX0_step S x1 = some r ∧ fX3_step M x1 = some r
def OB_whole (N : Nat) (INV : sX → sM → Prop) : Prop := ∀ (S : sX) (M : sM) (x1 : Int32), INV S M → ∃ (r : Int32), fX0_whole S x1 = some r ∧ fX3_whole N M x1 = some r
def OB_ratio (N : Nat) (INV : sX → sM → Prop) : Prop := ∀ (S : sX) (M : sM) (x1 : Int32) (x2 : Int32) (x3 : Int32) (x4 : Int32), INV S M → ∃ (r : Int32), fX0_ratio N S x1 x2 x3 x4 = some r ∧ fX3_ratio N M x1 x2 x3 x4 = some r
def OB_loop (N : Nat) (INV : sX → sM → Prop) : Prop := ∀ (S : sX) (M : sM) (x1 : Int32) (x2 : Int32), INV S M → ∃ (r : Int32), fX0_loop N S x1 x2 = some r ∧ fX3_loop N M x1 x2 = some r
def OB_went (N : Nat) (INV : sX → sM → Prop) : Prop := ∀ (S : sX) (M : sM) (x1 : Int32) (x2 : Int32) (x3 : Int32), INV S M → ∃ (r : Int32), fX0_went N S x1 x2 x3 = some r ∧ fX3_went N M x1 x2 x3 = some r
def OB_hot (N : Nat) (INV : sX → sM → Prop) : Prop := ∀ (S : sX) (M : sM) (x1 : Int32) (x2 : Int32) (x3 : Int32), INV S M → ∃ (r : Int32), fX0_hot N S x1 x2 x3 = some r ∧ fX3_hot N M x1 x2 x3 = some r
def OB_keep (N : Nat) (INV : sX → sM → Prop) : Prop := ∀ (S : sX) (M : sM), INV S M → ∃ (r : Int32) (S1 : sX) (M1 : sM), fX0_keep N S = some (r, S1) ∧ fX3_keep N M = some (r, M1) ∧ INV S1 M1
def OB_beside (N : Nat) (INV : sX → sM → Prop) : Prop := ∀ (S : sX) (M : sM) (x1 : Int32) (x2 : Int32), INV S M → ∃ (r : Int32), fX0_beside N S x1 x2 = some r ∧ fX3_beside N M x1 x2 = some r
def OB_counters (N : Nat) (INV : sX → sM → Prop) : Prop := ∀ (S : sX) (M : sM) (x1 : Int32), INV S M → ∃ (r : Int32) (S1 : sX) (M1 : sM), fX0_counters N S x1 = some (r, S1) ∧ fX3_counters N M x1 = some (r, M1) ∧ INV S1 M1
def OB_mask (N : Nat) (INV : sX → sM → Prop) : Prop := ∀ (S : sX) (M : sM) (x1 : Int32) (x2 : Int32), INV S M → ∃ (r : Int32) (S1 : sX) (M1 : sM), fX0_mask S x1 x2 = some (r, S1) ∧ fX3_mask M x1 x2 = some (r, M1) ∧ INV S1 M1
def OB_width (N : Nat) (INV : sX → sM → Prop) : Prop := ∀ (S : sX) (M : sM) (x1 : Int32) (x2 : Int32), INV S M → ∃ (r : Int32) (S1 : sX) (M1 : sM), fX0_width S x1 x2 = some (r, S1) ∧ fX3_width M x1 x2 = some (r, M1) ∧ INV S1 M1
def OB_together (N : Nat) (INV : sX → sM → Prop) : Prop := ∀ (S : sX) (M : sM) (x1 : Int32), INV S M → ∃ (r : Int32), fX0_together N S x1 = some r ∧ fX3_together N M x1 = some r
def OB_goes (N : Nat) (INV : sX → sM → Prop) : Prop := ∀ (S : sX) (M : sM) (x1 : Int32) (x2 : Int32), INV S M → ∃ (r : Int32), fX0_goes N S x1 x2 = some r ∧ fX3_goes N M x1 x2 = some r
def OB_rounds (N : Nat) (INV : sX → sM → Prop) : Prop := ∀ (S : sX) (M : sM) (x1 : Int32) (x2 : Int32), INV S M → ∃ (r : Int32) (S1 : sX) (M1 : sM), fX0_rounds N S x1 x2 = some (r, S1) ∧ fX3_rounds N M x1 x2 = some (r, M1) ∧ INV S1 M1
def OB_sliced (N : Nat) (INV : sX → sM → Prop) : Prop := ∀ (S : sX) (M : sM) (x1 : Int32) (x2 : Int32) (x3 : Int32) (x4 : Int32), INV S M → ∃ (r : Int32) (S1 : sX) (M1 : sM), fX0_sliced N S x1 x2 x3 x4 = some (r, S1) ∧ fX3_sliced N M x1 x2 x3 x4 = some (r, M1) ∧ INV S1 M1
def OB_scaled (N : Nat) (INV : sX → sM → Prop) : Prop := ∀ (S : sX) (M : sM) (x1 : Int32) (x2 : Int32) (x3 : Int32) (x4 : Int32), INV S M → ∃ (r : Int64) (S1 : sX) (M1 : sM), fX0_scaled N S x1 x2 x3 x4 = some (r, S1) ∧ fX3_scaled N M x1 x2 x3 x4 = some (r, M1) ∧ INV S1 M1
def OB_finest (N : Nat) (INV : sX → sM → Prop) : Prop := ∀ (S : sX) (M : sM) (x1 : Int32) (x2 : Int32) (x3 : Int32) (x4 : Int32), INV S M → ∃ (r : Int32) (S1 : sX) (M1 : sM), fX0_finest N S x1 x2 x3 x4 = some (r, S1) ∧ fX3_finest N M x1 x2 x3 x4 = some (r, M1) ∧ INV S1 M1
def OB_shows (N : Nat) (INV : sX → sM → Prop) : Prop := ∀ (S : sX) (M : sM) (x1 : Int32) (x2 : Int32) (x3 : Int32) (x4 : Int32) (x5 : Int32), INV S M → ∃ (r : Int32) (S1 : sX) (M1 : sM), fX0_shows N S x1 x2 x3 x4 x5 = some (r, S1) ∧ fX3_shows N M x1 x2 x3 x4 x5 = some (r, M1) ∧ INV S1 M1
def OB_samples (N : Nat) (INV : sX → sM → Prop) : Prop := ∀ (S : sX) (M : sM) (x1 : Int32) (x2 : Int32) (x3 : Int32) (x4 : Int32) (x5 : Int32), INV S M → ∃ (r : Int32) (S1 : sX) (M1 : sM), fX0_samples N S x1 x2 x3 x4 x5 = some (r, S1) ∧ fX3_samples N M x1 x2 x3 x4 x5 = some (r, M1) ∧ INV S1 M1
def OB_far (N : Nat) (INV : sX → sM → Prop) : Prop := ∀ (S : sX) (M : sM) (x1 : Int32) (x2 : Int32) (x3 : Int32) (x4 : Int32) (x5 : Int32), INV S M → ∃ (r : Int64) (S1 : sX) (M1 : sM), fX0_far N S x1 x2 x3 x4 x5 = some (r, S1) ∧ fX3_far N M x1 x2 x3 x4 x5 = some (r, M1) ∧ INV S1 M1
def OB_truest (N : Nat) (INV : sX → sM → Prop) : Prop := ∀ (S : sX) (M : sM) (x1 : Int32) (x2 : Int32) (x3 : Int32) (x4 : Int32), INV S M → ∃ (r : Int32) (S1 : sX) (M1 : sM), fX0_truest N S x1 x2 x3 x4 = some (r, S1) ∧ fX3_truest N M x1 x2 x3 x4 = some (r, M1) ∧ INV S1 M1
def OB_beats (N : Nat) (INV : sX → sM → Prop) : Prop := ∀ (S : sX) (M : sM) (x1 : Int32) (x2 : Int32) (x3 : Int32) (x4 : Int32), INV S M → ∃ (r : Int32), fX0_beats N S x1 x2 x3 x4 = some r ∧ fX3_beats N M x1 x2 x3 x4 = some r
def OB_over (N : Nat) (INV : sX → sM → Prop) : Prop := ∀ (S : sX) (M : sM) (x1 : Int32) (x2 : Int32) (x3 : Int32) (x4 : Int32), INV S M → ∃ (r : Int32), fX0_over S x1 x2 x3 x4 = some r ∧ fX3_over N M x1 x2 x3 x4 = some r
def OB_looked (N : Nat) (INV : sX → sM → Prop) : Prop := ∀ (S : sX) (M : sM) (x1 : Int32) (x2 : Int32) (x3 : Int32) (x4 : Int32), INV S M → ∃ (r : Int32) (S1 : sX) (M1 : sM), fX0_looked N S x1 x2 x3 x4 = some (r, S1) ∧ fX3_looked N M x1 x2 x3 x4 = some (r, M1) ∧ INV S1 M1
def OB_seldom (N : Nat) (INV : sX → sM → Prop) : Prop := ∀ (S : sX) (M : sM) (x1 : Int32) (x2 : Int32), INV S M → ∃ (r : Int32) (S1 : sX) (M1 : sM), fX0_seldom N S x1 x2 = some (r, S1) ∧ fX3_seldom N M x1 x2 = some (r, M1) ∧ INV S1 M1
def OB_run (N : Nat) (INV : sX → sM → Prop) : Prop := ∀ (S : sX) (M : sM) (x1 : Int32) (x2 : Int32) (x3 : Int32), INV S M → ∃ (r : Int32) (S1 : sX) (M1 : sM), fX0_run S x1 x2 x3 = some (r, S1) ∧ fX3_run M x1 x2 x3 = some (r, M1) ∧ INV S1 M1
def OB_forget (N : Nat) (INV : sX → sM → Prop) : Prop := ∀ (S : sX) (M : sM), INV S M → ∃ (r : Int32) (S1 : sX) (M1 : sM), fX0_forget S = some (r, S1) ∧ fX3_forget M = some (r, M1) ∧ INV S1 M1
def OB_wired (N : Nat) (INV : sX → sM → Prop) : Prop := ∀ (S : sX) (M : sM) (x1 : Int32) (x2 : Int32) (x3 : Int32), INV S M → ∃ (r : Int32), fX0_wired N S x1 x2 x3 = some r ∧ fX3_wired N M x1 x2 x3 = some r
def OB_sheet (N : Nat) (INV : sX → sM → Prop) : Prop := ∀ (S : sX) (M : sM) (x1 : Int32) (x2 : Int32) (x3 : Int32), INV S M → ∃ (r : Int32) (M1 : sM), fX3_sheet N M x1 x2 x3 = some (r, M1) ∧ fX0_sheet (fun r' S1 => r' = r ∧ INV S1 M1) S 9000 110000 x1 x2 x3
def OB_lay (N : Nat) (INV : sX → sM → Prop) : Prop := ∀ (S : sX) (M : sM) (x1 : Int32) (x2 : Int32) (x3 : Int32), INV S M → ∃ (r : Int32) (M1 : sM), fX3_lay M x1 x2 x3 = some (r, M1) ∧ fX0_lay (fun r' S1 => r' = r ∧ INV S1 M1) S 9000 110000 x1 x2 x3
def OB_said (N : Nat) (INV : sX → sM → Prop) : Prop := ∀ (S : sX) (M : sM) (x1 : Int32) (x2 : Int32) (x3 : Int32) (x4 : Int32) (x5 : Int32), INV S M → ∃ r : Int32, fX3_said N M x1 x2 x3 x4 x5 = some r ∧ fX0_said N (fun r' S1 => r' = r ∧ INV S1 M) S 9000 110000 x1 x2 x3 x4 x5
def OB_count (N : Nat) (INV : sX → sM → Prop) : Prop := ∀ (S : sX) (M : sM) (x1 : Int32), INV S M → ∃ (r : Int32), fX0_count S x1 = some r ∧ fX3_count M x1 = some r
def OBS (N : Nat) (INV : sX → sM → Prop) : Prop := OB_feed N INV ∧ OB_end N INV ∧ OB_program N INV ∧ OB_fault N INV ∧ OB_line N INV ∧ OB_step N INV ∧ OB_whole N INV ∧ OB_ratio N INV ∧ OB_loop N INV ∧ OB_went N INV ∧ OB_hot N INV ∧ OB_keep N INV ∧ OB_beside N INV ∧ OB_counters N INV ∧ OB_mask N INV ∧ OB_width N INV ∧ OB_together N INV ∧ OB_goes N INV ∧ OB_rounds N INV ∧ OB_sliced N INV ∧ OB_scaled N INV ∧ OB_finest N INV ∧ OB_shows N INV ∧ OB_samples N INV ∧ OB_far N INV ∧ OB_truest N INV ∧ OB_beats N INV ∧ OB_over N INV ∧ OB_looked N INV ∧ OB_seldom N INV ∧ OB_run N INV ∧ OB_forget N INV ∧ OB_wired N INV ∧ OB_sheet N INV ∧ OB_lay N INV ∧ OB_said N INV ∧ OB_count N INV
theorem gL_15 : GoodIn lw_all (wsV "EventCountersLaw" 15 RX0 yX0_feed (ws_ yX0_feed cX0_feed 4 (some .int))) := lw_V q86 q87 q88 q60 q89
theorem gL_19 : GoodIn lw_all (wsV "EventCountersLaw" 19 RX3 yX3_feed (ws_ yX3_feed cX3_feed 4 (some .int))) := lw_V q1143 q1144 q1145 q63 q1146
theorem gL_20 : GoodIn lw_all (wsV "EventCountersLaw" 20 RX0 yX0_end (ws_ yX0_end cX0_end 3 (some .int))) := lw_V q90 q91 q92 q60 q93
theorem gL_24 : GoodIn lw_all (wsV "EventCountersLaw" 24 RX3 yX3_end (ws_ yX3_end cX3_end 3 (some .int))) := lw_V q1148 q1149 q1150 q63 q1151
theorem gL_25 : GoodIn lw_all (wsV "EventCountersLaw" 25 RX0 yX0_program (wsW_ yX0_program cX0_program 4 (some .int) [(26, 91, 92, 104)])) := lw_VW q97 q98 q99 q60 q100
theorem gL_29 : GoodIn lw_all (wsV "EventCountersLaw" 29 RX3 yX3_program (ws_ yX3_program cX3_program 4 (some .int))) := lw_V q1155 q1156 q1157 q63 q1158
theorem gL_30 : GoodIn lw_all (wsV "EventCountersLaw" 30 RX0 yX0_fault (ws_ yX0_fault cX0_fault 1 (some .int))) := lw_V q457 q458 q459 q60 q460
theorem gL_33 : GoodIn lw_all (wsV "EventCountersLaw" 33 RX3 yX3_fault (ws_ yX3_fault cX3_fault 1 (some .int))) := lw_V q1229 q1230 q1231 q63 q1232
theorem gL_34 : GoodIn lw_all (wsV "EventCountersLaw" 34 RX0 yX0_line (ws_ yX0_line cX0_line 4 (some .int))) := lw_V q461 q462 q463 q60 q464
theorem gL_38 : GoodIn lw_all (wsV "EventCountersLaw" 38 RX3 yX3_line (ws_ yX3_line cX3_line 3 (some .int))) := lw_V q1233 q1234 q1235 q63 q1236
theorem gL_39 : GoodIn lw_all (wsV "EventCountersLaw" 39 RX0 yX0_step (ws_ yX0_step cX0_step 2 (some .int))) := lw_V q471 q472 q473 q60 q474
theorem gL_42 : GoodIn lw_all (wsV "EventCountersLaw" 42 RX3 yX3_step (ws_ yX3_step cX3_step 2 (some .int))) := lw_V q1251 q1252 q1253 q63 q1254
theorem gL_43 : GoodIn lw_all (wsV "EventCountersLaw" 43 RX0 yX0_whole (ws_ yX0_whole cX0_whole 2 (some .int))) := lw_V q475 q476 q477 q60 q478
theorem gL_46 : GoodIn lw_all (wsV "EventCountersLaw" 46 RX3 yX3_whole (ws_ yX3_whole cX3_whole 2 (some .int))) := lw_V q1255 q1256 q1257 q63 q1258
theorem gL_47 : GoodIn lw_all (wsV "EventCountersLaw" 47 RX0 yX0_ratio (ws_ yX0_ratio cX0_ratio 7 (some .int))) := lw_V q479 q480 q481 q60 q482
theorem gL_51 : GoodIn lw_all (wsV "EventCountersLaw" 51 RX3 yX3_ratio (ws_ yX3_ratio cX3_ratio 7 (some .int))) := lw_V q1263 q1264 q1265 q63 q1266
theorem gL_52 : GoodIn lw_all (wsV "EventCountersLaw" 52 RX0 yX0_loop (ws_ yX0_loop cX0_loop 4 (some .int))) := lw_V q496 q497 q498 q60 q499
theorem gL_55 : GoodIn lw_all (wsV "EventCountersLaw" 55 RX3 yX3_loop (ws_ yX3_loop cX3_loop 7 (some .int))) := lw_V q1279 q1280 q1281 q63 q1282
theorem gL_56 : GoodIn lw_all (wsV "EventCountersLaw" 56 RX0 yX0_went (ws_ yX0_went cX0_went 9 (some .int))) := lw_V q519 q520 q521 q60 q522
theorem gL_60 : GoodIn lw_all (wsV "EventCountersLaw" 60 RX3 yX3_went (ws_ yX3_went cX3_went 9 (some .int))) := lw_V q1284 q1285 q1286 q63 q1287
theorem gL_61 : GoodIn lw_all (wsV "EventCountersLaw" 61 RX0 yX0_hot (ws_ yX0_hot cX0_hot 9 (some .int))) := lw_V q542 q543 q544 q60 q545
theorem gL_64 : GoodIn lw_all (wsV "EventCountersLaw" 64 RX3 yX3_hot (ws_ yX3_hot cX3_hot 9 (some .int))) := lw_V q1289 q1290 q1291 q63 q1292
theorem gL_65 : GoodIn lw_all (wsV "EventCountersLaw" 65 RX0 yX0_keep (ws_ yX0_keep cX0_keep 3 (some .int))) := lw_V q557 q558 q559 q60 q560
theorem gL_68 : GoodIn lw_all (wsV "EventCountersLaw" 68 RX3 yX3_keep (ws_ yX3_keep cX3_keep 3 (some .int))) := lw_V q1297 q1298 q1299 q63 q1300
theorem gL_69 : GoodIn lw_all (wsV "EventCountersLaw" 69 RX0 yX0_beside (ws_ yX0_beside cX0_beside 10 (some .int))) := lw_V q561 q562 q563 q60 q564
theorem gL_72 : GoodIn lw_all (wsV "EventCountersLaw" 72 RX3 yX3_beside (ws_ yX3_beside cX3_beside 10 (some .int))) := lw_V q1301 q1302 q1303 q63 q1304
theorem gL_73 : GoodIn lw_all (wsV "EventCountersLaw" 73 RX0 yX0_counters (ws_ yX0_counters cX0_counters 7 (some .int))) := lw_V q572 q573 q574 q60 q575
theorem gL_76 : GoodIn lw_all (wsV "EventCountersLaw" 76 RX3 yX3_counters (ws_ yX3_counters cX3_counters 3 (some .int))) := lw_V q1305 q1306 q1307 q63 q1308
theorem gL_77 : GoodIn lw_all (wsV "EventCountersLaw" 77 RX0 yX0_mask (ws_ yX0_mask cX0_mask 4 (some .int))) := lw_V q576 q577 q578 q60 q579
theorem gL_80 : GoodIn lw_all (wsV "EventCountersLaw" 80 RX3 yX3_mask (ws_ yX3_mask cX3_mask 4 (some .int))) := lw_V q1309 q1310 q1311 q63 q1312
theorem gL_81 : GoodIn lw_all (wsV "EventCountersLaw" 81 RX0 yX0_width (ws_ yX0_width cX0_width 4 (some .int))) := lw_V q588 q589 q590 q60 q591
theorem gL_84 : GoodIn lw_all (wsV "EventCountersLaw" 84 RX3 yX3_width (ws_ yX3_width cX3_width 4 (some .int))) := lw_V q1317 q1318 q1319 q63 q1320
theorem gL_85 : GoodIn lw_all (wsV "EventCountersLaw" 85 RX0 yX0_together (ws_ yX0_together cX0_together 2 (some .int))) := lw_V q594 q595 q596 q60 q597
theorem gL_88 : GoodIn lw_all (wsV "EventCountersLaw" 88 RX3 yX3_together (ws_ yX3_together cX3_together 2 (some .int))) := lw_V q1323 q1324 q1325 q63 q1326
theorem gL_89 : GoodIn lw_all (wsV "EventCountersLaw" 89 RX0 yX0_goes (ws_ yX0_goes cX0_goes 7 (some .int))) := lw_V q614 q615 q616 q60 q617
theorem gL_92 : GoodIn lw_all (wsV "EventCountersLaw" 92 RX3 yX3_goes (ws_ yX3_goes cX3_goes 4 (some .int))) := lw_V q1334 q1335 q1336 q63 q1337
theorem gL_93 : GoodIn lw_all (wsV "EventCountersLaw" 93 RX0 yX0_rounds (ws_ yX0_rounds cX0_rounds 3 (some .int))) := lw_V q618 q619 q620 q60 q621
theorem gL_96 : GoodIn lw_all (wsV "EventCountersLaw" 96 RX3 yX3_rounds (ws_ yX3_rounds cX3_rounds 3 (some .int))) := lw_V q1338 q1339 q1340 q63 q1341
theorem gL_97 : GoodIn lw_all (wsV "EventCountersLaw" 97 RX0 yX0_sliced (ws_ yX0_sliced cX0_sliced 5 (some .int))) := lw_V q629 q630 q631 q60 q632
theorem gL_100 : GoodIn lw_all (wsV "EventCountersLaw" 100 RX3 yX3_sliced (ws_ yX3_sliced cX3_sliced 5 (some .int))) := lw_V q1346 q1347 q1348 q63 q1349
theorem gL_101 : GoodIn lw_all (wsV "EventCountersLaw" 101 RX0 yX0_scaled (ws_ yX0_scaled cX0_scaled 5 (some .long))) := lw_V q641 q642 q643 q60 q644
theorem gL_105 : GoodIn lw_all (wsV "EventCountersLaw" 105 RX3 yX3_scaled (ws_ yX3_scaled cX3_scaled 5 (some .long))) := lw_V q1362 q1363 q1364 q63 q1365
theorem gL_106 : GoodIn lw_all (wsV "EventCountersLaw" 106 RX0 yX0_finest (ws_ yX0_finest cX0_finest 13 (some .int))) := lw_V q652 q653 q654 q60 q655
theorem gL_109 : GoodIn lw_all (wsV "EventCountersLaw" 109 RX3 yX3_finest (ws_ yX3_finest cX3_finest 14 (some .int))) := lw_V q1369 q1370 q1371 q63 q1372
theorem gL_110 : GoodIn lw_all (wsV "EventCountersLaw" 110 RX0 yX0_shows (ws_ yX0_shows cX0_shows 6 (some .int))) := lw_V q656 q657 q658 q60 q659
theorem gL_114 : GoodIn lw_all (wsV "EventCountersLaw" 114 RX3 yX3_shows (ws_ yX3_shows cX3_shows 6 (some .int))) := lw_V q1373 q1374 q1375 q63 q1376
theorem gL_115 : GoodIn lw_all (wsV "EventCountersLaw" 115 RX0 yX0_samples (ws_ yX0_samples cX0_samples 10 (some .int))) := lw_V q668 q669 q670 q60 q671
theorem gL_118 : GoodIn lw_all (wsV "EventCountersLaw" 118 RX3 yX3_samples (ws_ yX3_samples cX3_samples 11 (some .int))) := lw_V q1386 q1387 q1388 q63 q1389
theorem gL_119 : GoodIn lw_all (wsV "EventCountersLaw" 119 RX0 yX0_far (ws_ yX0_far cX0_far 6 (some .long))) := lw_V q673 q674 q675 q60 q676
theorem gL_123 : GoodIn lw_all (wsV "EventCountersLaw" 123 RX3 yX3_far (ws_ yX3_far cX3_far 6 (some .long))) := lw_V q1391 q1392 q1393 q63 q1394
theorem gL_124 : GoodIn lw_all (wsV "EventCountersLaw" 124 RX0 yX0_truest (ws_ yX0_truest cX0_truest 13 (some .int))) := lw_V q683 q684 q685 q60 q686
theorem gL_127 : GoodIn lw_all (wsV "EventCountersLaw" 127 RX3 yX3_truest (ws_ yX3_truest cX3_truest 14 (some .int))) := lw_V q1401 q1402 q1403 q63 q1404
theorem gL_128 : GoodIn lw_all (wsV "EventCountersLaw" 128 RX0 yX0_beats (ws_ yX0_beats cX0_beats 14 (some .int))) := lw_V q687 q688 q689 q60 q690
theorem gL_131 : GoodIn lw_all (wsV "EventCountersLaw" 131 RX3 yX3_beats (ws_ yX3_beats cX3_beats 12 (some .int))) := lw_V q1405 q1406 q1407 q63 q1408
theorem gL_132 : GoodIn lw_all (wsV "EventCountersLaw" 132 RX0 yX0_over (ws_ yX0_over cX0_over 6 (some .int))) := lw_V q691 q692 q693 q60 q694
theorem gL_135 : GoodIn lw_all (wsV "EventCountersLaw" 135 RX3 yX3_over (ws_ yX3_over cX3_over 6 (some .int))) := lw_V q1409 q1410 q1411 q63 q1412
theorem gL_136 : GoodIn lw_all (wsV "EventCountersLaw" 136 RX0 yX0_looked (ws_ yX0_looked cX0_looked 5 (some .int))) := lw_V q699 q700 q701 q60 q702
theorem gL_139 : GoodIn lw_all (wsV "EventCountersLaw" 139 RX3 yX3_looked (ws_ yX3_looked cX3_looked 6 (some .int))) := lw_V q1417 q1418 q1419 q63 q1420
theorem gL_140 : GoodIn lw_all (wsV "EventCountersLaw" 140 RX0 yX0_seldom (ws_ yX0_seldom cX0_seldom 5 (some .int))) := lw_V q707 q708 q709 q60 q710
theorem gL_143 : GoodIn lw_all (wsV "EventCountersLaw" 143 RX3 yX3_seldom (ws_ yX3_seldom cX3_seldom 5 (some .int))) := lw_V q1425 q1426 q1427 q63 q1428
theorem gL_144 : GoodIn lw_all (wsV "EventCountersLaw" 144 RX0 yX0_run (ws_ yX0_run cX0_run 4 (some .int))) := lw_V q711 q712 q713 q60 q714
theorem gL_147 : GoodIn lw_all (wsV "EventCountersLaw" 147 RX3 yX3_run (ws_ yX3_run cX3_run 4 (some .int))) := lw_V q1429 q1430 q1431 q63 q1432
theorem gL_148 : GoodIn lw_all (wsV "EventCountersLaw" 148 RX0 yX0_forget (ws_ yX0_forget cX0_forget 2 (some .int))) := lw_V q715 q716 q717 q60 q718
theorem gL_151 : GoodIn lw_all (wsV "EventCountersLaw" 151 RX3 yX3_forget (ws_ yX3_forget cX3_forget 2 (some .int))) := lw_V q1433 q1434 q1435 q63 q1436
theorem gL_152 : GoodIn lw_all (wsV "EventCountersLaw" 152 RX0 yX0_wired (ws_ yX0_wired cX0_wired 8 (some .int))) := lw_V q719 q720 q721 q60 q722
theorem gL_155 : GoodIn lw_all (wsV "EventCountersLaw" 155 RX3 yX3_wired (ws_ yX3_wired cX3_wired 7 (some .int))) := lw_V q1437 q1438 q1439 q63 q1440
theorem gL_156 : GoodIn lw_all (wsV "EventCountersLaw" 156 RX0 yX0_sheet (wsW_ yX0_sheet cX0_sheet 5 (some .int) [(32, 57, 58, 336)])) := lw_VW q853 q854 q855 q60 q856
theorem gL_159 : GoodIn lw_all (wsV "EventCountersLaw" 159 RX3 yX3_sheet (ws_ yX3_sheet cX3_sheet 5 (some .int))) := lw_V q1449 q1450 q1451 q63 q1452
theorem gL_160 : GoodIn lw_all (wsV "EventCountersLaw" 160 RX0 yX0_lay (wsW_ yX0_lay cX0_lay 6 (some .int) [(25, 74, 75, 342), (25, 74, 80, 344)])) := lw_VW q888 q889 q890 q60 q891
theorem gL_163 : GoodIn lw_all (wsV "EventCountersLaw" 163 RX3 yX3_lay (ws_ yX3_lay cX3_lay 4 (some .int))) := lw_V q1456 q1457 q1458 q63 q1459
theorem gL_164 : GoodIn lw_all (wsV "EventCountersLaw" 164 RX0 yX0_said (wsW_ yX0_said cX0_said 15 (some .int) [(60, 153, 241, 342), (154, 238, 241, 342), (60, 153, 246, 350), (154, 238, 246, 350), (60, 153, 251, 344), (154, 238, 251, 344)])) := lw_VW q939 q940 q941 q60 q942
theorem gL_167 : GoodIn lw_all (wsV "EventCountersLaw" 167 RX3 yX3_said (ws_ yX3_said cX3_said 15 (some .int))) := lw_V q1460 q1461 q1462 q63 q1463
theorem gL_168 : GoodIn lw_all (wsV "EventCountersLaw" 168 RX0 yX0_count (ws_ yX0_count cX0_count 2 (some .int))) := lw_V q960 q961 q962 q60 q963
theorem gL_171 : GoodIn lw_all (wsV "EventCountersLaw" 171 RX3 yX3_count (ws_ yX3_count cX3_count 2 (some .int))) := lw_V q1464 q1465 q1466 q63 q1467
section
variable {p : Program} {l : Launch} {e : Env} {s : State} {m : MethodId} {args : Array Value} {below : List Frame} {meth : Method} {c : Code} {H : Heap} {Q : State → Prop} {K : oK} {D : va_G} {dA : Nat → ClassId} {o oM : Nat} {q qM : Nat → Nat} {S : sX} {M : sM} {b L u w N : Nat} {xs : Nat → Int32} {ls : Array Slot} {i0 : Int32} {INV : sX → sM → Prop}

theorem cL_feed (hS : LWS K l p m c s args b L xs) (hok : OB_feed N INV) (hI : INV S M) (hM : LH D dA o q oM qM S M s H) (hi : ∀ j : Nat, j < 6 → vp_in (i0 + Int32.ofNat j) L) (hl : lv_has ls 4 [(0, .ref b), (1, .ref o), (2, .ref oM), (3, .int i0)]) (hu : u + 9000 ≤ 603072) (hw : w + 110000 ≤ 7262314) (kk : ∀ (S1 : sX) (M1 : sM) (H1 : Heap), INV S1 M1 → LH D dA o q oM qM S1 M1 s H1 → W p l e room_1 s m args below meth c H1 [] (u + 9000) (w + 110000) Q (F0 m 1639 ls [])) : W p l e room_1 s m args below meth c H [] u w Q (F0 m 196 ls []) := by
  have X := hS.1
  have hx := X.1
  have hb := X.2.1
  unfold LH at hM kk
  unfold OB_feed at hok
  refine lv_aload_n hx hb dL_law_196 rfl (lv_at hl 1 rfl) ?_
  refine lv_aload_n hx hb dL_law_197 rfl (lv_at hl 0 rfl) ?_
  refine lv_iload_n hx hb dL_law_198 rfl (lv_at hl 3 rfl) ?_
  refine lv_iconst (v := 1) hx hb dL_law_199 (by decide) ?_
  refine lv_iadd hx hb dL_law_200 ?_
  refine va_sld hx hb hS.2.1 hS.2.2.1 (Nat.not_le.mpr hS.2.2.1) hM.2.2.2 (hi 1 (by decide)) dL_law_201 ?_
  refine lv_i2l hx hb dL_law_202 rfl ?_
  refine lv_bipush (v := 32) hx hb dL_law_203 (by decide) ?_
  refine lv_lshl hx hb dL_law_205 rfl ?_
  refine lv_aload_n hx hb dL_law_206 rfl (lv_at hl 0 rfl) ?_
  refine lv_iload_n hx hb dL_law_207 rfl (lv_at hl 3 rfl) ?_
  refine lv_iconst (v := 2) hx hb dL_law_208 (by decide) ?_
  refine lv_iadd hx hb dL_law_209 ?_
  refine va_sld hx hb hS.2.1 hS.2.2.1 (Nat.not_le.mpr hS.2.2.1) hM.2.2.2 (hi 2 (by decide)) dL_law_210 ?_
  refine lv_i2l hx hb dL_law_211 rfl ?_
  refine lv_ldc2 (own := "EventCountersLaw") (v := 4294967295) hx hb X.2.2.2.1 (X.2.2.2.2 _ q1469) dL_law_212 ?_
  refine lv_land hx hb dL_law_215 ?_
  refine lv_lor hx hb dL_law_216 ?_
  obtain ⟨r, S1, M1, hf, hm, hI⟩ := hok S M ((((xs (i0 + (1 : Int32)).toNatClampNeg).toInt64) <<< ((32 : Int32).toInt64 &&& 63)) ||| (((xs (i0 + (2 : Int32)).toNatClampNeg).toInt64) &&& (4294967295 : Int64))) hI
  refine l_xW (v := .int r) (As := [.long ((((xs (i0 + (1 : Int32)).toNatClampNeg).toInt64) <<< ((32 : Int32).toInt64 &&& 63)) ||| (((xs (i0 + (2 : Int32)).toNatClampNeg).toInt64) &&& (4294967295 : Int64)))]) (rest := []) X hM (fun _ => Iff.rfl) (metX0_feed l D dA o q N S ((((xs (i0 + (1 : Int32)).toNatClampNeg).toInt64) <<< ((32 : Int32).toInt64 &&& 63)) ||| (((xs (i0 + (2 : Int32)).toNatClampNeg).toInt64) &&& (4294967295 : Int64))) _ _ hf) (cwV 1 X.2.2.2.2 gL_15 rfl rfl rfl hX0_feed ⟨(Nat.le_of_ble_eq_true rfl), (Nat.le_of_ble_eq_true rfl)⟩) rfl hl.1 rfl (Nat.le_of_ble_eq_true rfl) ⟨Nat.le_trans (Nat.le_add_right _ _) hu, Nat.le_trans (Nat.le_add_right _ _) hw⟩ dL_law_217 (fun H hM => ?_)
  refine lv_aload_n hx hb dL_law_220 rfl (lv_at hl 2 rfl) ?_
  refine lv_aload_n hx hb dL_law_221 rfl (lv_at hl 0 rfl) ?_
  refine lv_iload_n hx hb dL_law_222 rfl (lv_at hl 3 rfl) ?_
  refine lv_iconst (v := 1) hx hb dL_law_223 (by decide) ?_
  refine lv_iadd hx hb dL_law_224 ?_
  refine va_sld hx hb hS.2.1 hS.2.2.1 (Nat.not_le.mpr hS.2.2.1) hM.2.2.2 (hi 1 (by decide)) dL_law_225 ?_
  refine lv_i2l hx hb dL_law_226 rfl ?_
  refine lv_bipush (v := 32) hx hb dL_law_227 (by decide) ?_
  refine lv_lshl hx hb dL_law_229 rfl ?_
  refine lv_aload_n hx hb dL_law_230 rfl (lv_at hl 0 rfl) ?_
  refine lv_iload_n hx hb dL_law_231 rfl (lv_at hl 3 rfl) ?_
  refine lv_iconst (v := 2) hx hb dL_law_232 (by decide) ?_
  refine lv_iadd hx hb dL_law_233 ?_
  refine va_sld hx hb hS.2.1 hS.2.2.1 (Nat.not_le.mpr hS.2.2.1) hM.2.2.2 (hi 2 (by decide)) dL_law_234 ?_
  refine lv_i2l hx hb dL_law_235 rfl ?_
  refine lv_ldc2 (own := "EventCountersLaw") (v := 4294967295) hx hb X.2.2.2.1 (X.2.2.2.2 _ q1469) dL_law_236 ?_
  refine lv_land hx hb dL_law_239 ?_
  refine lv_lor hx hb dL_law_240 ?_
  refine l_mW (v := .int r) (As := [.long ((((xs (i0 + (1 : Int32)).toNatClampNeg).toInt64) <<< ((32 : Int32).toInt64 &&& 63)) ||| (((xs (i0 + (2 : Int32)).toNatClampNeg).toInt64) &&& (4294967295 : Int64)))]) (rest := [.int r]) X hM (fun _ => Iff.rfl) (metX3_feed l D oM qM (dA 0) (dA 1) (l_mG hM) N M ((((xs (i0 + (1 : Int32)).toNatClampNeg).toInt64) <<< ((32 : Int32).toInt64 &&& 63)) ||| (((xs (i0 + (2 : Int32)).toNatClampNeg).toInt64) &&& (4294967295 : Int64))) _ _ hm) (cwV 1 X.2.2.2.2 gL_19 rfl rfl rfl hX3_feed ⟨(Nat.le_of_ble_eq_true rfl), (Nat.le_of_ble_eq_true rfl)⟩) rfl hl.1 rfl (Nat.le_of_ble_eq_true rfl) ⟨Nat.le_trans (Nat.le_add_right _ _) hu, Nat.le_trans (Nat.le_add_right _ _) hw⟩ dL_law_241 (fun H hM => ?_)
  refine lv_icmp_eq (tgt := 1639) hx hb dL_law_244 rfl (fun _ => ?_) (fun cnd => absurd rfl cnd)
  exact W.widen (Nat.le_add_right _ _) (Nat.le_add_right _ _) <| kk S1 M1 H hI hM

theorem cL_end (hS : LWS K l p m c s args b L xs) (hok : OB_end N INV) (hI : INV S M) (hM : LH D dA o q oM qM S M s H) (hi : ∀ j : Nat, j < 6 → vp_in (i0 + Int32.ofNat j) L) (hl : lv_has ls 4 [(0, .ref b), (1, .ref o), (2, .ref oM), (3, .int i0)]) (hu : u + 9000 ≤ 603072) (hw : w + 110000 ≤ 7262314) (kk : ∀ (S1 : sX) (M1 : sM) (H1 : Heap), INV S1 M1 → LH D dA o q oM qM S1 M1 s H1 → W p l e room_1 s m args below meth c H1 [] (u + 9000) (w + 110000) Q (F0 m 1639 ls [])) : W p l e room_1 s m args below meth c H [] u w Q (F0 m 249 ls []) := by
  have X := hS.1
  have hx := X.1
  have hb := X.2.1
  unfold LH at hM kk
  unfold OB_end at hok
  refine lv_aload_n hx hb dL_law_249 rfl (lv_at hl 1 rfl) ?_
  refine lv_aload_n hx hb dL_law_250 rfl (lv_at hl 0 rfl) ?_
  refine lv_iload_n hx hb dL_law_251 rfl (lv_at hl 3 rfl) ?_
  refine lv_iconst (v := 1) hx hb dL_law_252 (by decide) ?_
  refine lv_iadd hx hb dL_law_253 ?_
  refine va_sld hx hb hS.2.1 hS.2.2.1 (Nat.not_le.mpr hS.2.2.1) hM.2.2.2 (hi 1 (by decide)) dL_law_254 ?_
  obtain ⟨r, S1, M1, hf, hm, hI⟩ := hok S M (xs (i0 + (1 : Int32)).toNatClampNeg) hI
  refine l_xW (v := .int r) (As := [.int (xs (i0 + (1 : Int32)).toNatClampNeg)]) (rest := []) X hM (fun _ => Iff.rfl) (metX0_end l D dA o q S (xs (i0 + (1 : Int32)).toNatClampNeg) _ _ hf) (cwV 1 X.2.2.2.2 gL_20 rfl rfl rfl hX0_end ⟨(Nat.le_of_ble_eq_true rfl), (Nat.le_of_ble_eq_true rfl)⟩) rfl hl.1 rfl (Nat.le_of_ble_eq_true rfl) ⟨Nat.le_trans (Nat.le_add_right _ _) hu, Nat.le_trans (Nat.le_add_right _ _) hw⟩ dL_law_255 (fun H hM => ?_)
  refine lv_aload_n hx hb dL_law_258 rfl (lv_at hl 2 rfl) ?_
  refine lv_aload_n hx hb dL_law_259 rfl (lv_at hl 0 rfl) ?_
  refine lv_iload_n hx hb dL_law_260 rfl (lv_at hl 3 rfl) ?_
  refine lv_iconst (v := 1) hx hb dL_law_261 (by decide) ?_
  refine lv_iadd hx hb dL_law_262 ?_
  refine va_sld hx hb hS.2.1 hS.2.2.1 (Nat.not_le.mpr hS.2.2.1) hM.2.2.2 (hi 1 (by decide)) dL_law_263 ?_
  refine l_mW (v := .int r) (As := [.int (xs (i0 + (1 : Int32)).toNatClampNeg)]) (rest := [.int r]) X hM (fun _ => Iff.rfl) (metX3_end l D oM qM (dA 0) (dA 1) (l_mG hM) M (xs (i0 + (1 : Int32)).toNatClampNeg) _ _ hm) (cwV 1 X.2.2.2.2 gL_24 rfl rfl rfl hX3_end ⟨(Nat.le_of_ble_eq_true rfl), (Nat.le_of_ble_eq_true rfl)⟩) rfl hl.1 rfl (Nat.le_of_ble_eq_true rfl) ⟨Nat.le_trans (Nat.le_add_right _ _) hu, Nat.le_trans (Nat.le_add_right _ _) hw⟩ dL_law_264 (fun H hM => ?_)
  refine lv_icmp_eq (tgt := 1639) hx hb dL_law_267 rfl (fun _ => ?_) (fun cnd => absurd rfl cnd)
  exact W.widen (Nat.le_add_right _ _) (Nat.le_add_right _ _) <| kk S1 M1 H hI hM

theorem cL_program (hS : LWS K l p m c s args b L xs) (hok : OB_program N INV) (hI : INV S M) (hM : LH D dA o q oM qM S M s H) (hi : ∀ j : Nat, j < 6 → vp_in (i0 + Int32.ofNat j) L) (hl : lv_has ls 4 [(0, .ref b), (1, .ref o), (2, .ref oM), (3, .int i0)]) (hu : u + 9000 ≤ 603072) (hw : w + 110000 ≤ 7262314) (kk : ∀ (S1 : sX) (M1 : sM) (H1 : Heap), INV S1 M1 → LH D dA o q oM qM S1 M1 s H1 → W p l e room_1 s m args below meth c H1 [] (u + 9000) (w + 110000) Q (F0 m 1639 ls [])) : W p l e room_1 s m args below meth c H [] u w Q (F0 m 272 ls []) := by
  have X := hS.1
  have hx := X.1
  have hb := X.2.1
  unfold LH at hM kk
  unfold OB_program at hok
  refine lv_aload_n hx hb dL_law_272 rfl (lv_at hl 1 rfl) ?_
  obtain ⟨r, M1, hm, hf⟩ := hok S M hI
  refine l_xY (As := []) (rest := []) X hM (fun _ => Iff.rfl) (metX0_program l D dA K o q N _ S 9000 110000  hf) (cwH 0 X.2.2.2.2 gL_25 rfl rfl (by decide +kernel) ⟨(Nat.le_of_ble_eq_true rfl), (Nat.le_of_ble_eq_true rfl)⟩) (l_preY hM (fun _ h => h) hS.2.2.2.1 hS.2.2.2.2.1) rfl hl.1 rfl (Nat.le_of_ble_eq_true rfl) ⟨hu, hw⟩ dL_law_273 (fun v S1 H hq hM => ?_)
  obtain ⟨r', rfl, rfl, hI⟩ := hq
  refine W.eq (g2 := F0 m _ _ [.int (r')]) rfl ?_
  refine lv_aload_n hx hb dL_law_276 rfl (lv_at hl 2 rfl) ?_
  refine l_mW (v := .int r') (As := []) (rest := [.int (r')]) X hM (fun _ => Iff.rfl) (metX3_program l D oM qM (dA 0) (dA 1) (l_mG hM) N M  _ _ hm) (cwV 0 X.2.2.2.2 gL_29 rfl rfl rfl hX3_program ⟨(Nat.le_of_ble_eq_true rfl), (Nat.le_of_ble_eq_true rfl)⟩) rfl hl.1 rfl (Nat.le_of_ble_eq_true rfl) ⟨hu, hw⟩ dL_law_277 (fun H hM => ?_)
  refine lv_icmp_eq (tgt := 1639) hx hb dL_law_280 rfl (fun _ => ?_) (fun cnd => absurd rfl cnd)
  exact kk S1 M1 H hI hM

theorem cL_fault (hS : LWS K l p m c s args b L xs) (hok : OB_fault N INV) (hI : INV S M) (hM : LH D dA o q oM qM S M s H) (hi : ∀ j : Nat, j < 6 → vp_in (i0 + Int32.ofNat j) L) (hl : lv_has ls 4 [(0, .ref b), (1, .ref o), (2, .ref oM), (3, .int i0)]) (hu : u + 9000 ≤ 603072) (hw : w + 110000 ≤ 7262314) (kk : ∀ (S1 : sX) (M1 : sM) (H1 : Heap), INV S1 M1 → LH D dA o q oM qM S1 M1 s H1 → W p l e room_1 s m args below meth c H1 [] (u + 9000) (w + 110000) Q (F0 m 1639 ls [])) : W p l e room_1 s m args below meth c H [] u w Q (F0 m 285 ls []) := by
  have X := hS.1
  have hx := X.1
  have hb := X.2.1
  unfold LH at hM kk
  unfold OB_fault at hok
  refine lv_aload_n hx hb dL_law_285 rfl (lv_at hl 1 rfl) ?_
  obtain ⟨r, hf, hm⟩ := hok S M hI
  refine l_xR (v := .int r) (As := []) (rest := []) X hM (metX0_fault l D dA o q S  _ hf) (cwV 0 X.2.2.2.2 gL_30 rfl rfl rfl hX0_fault ⟨(Nat.le_of_ble_eq_true rfl), (Nat.le_of_ble_eq_true rfl)⟩) rfl hl.1 rfl (Nat.le_of_ble_eq_true rfl) ⟨Nat.le_trans (Nat.le_add_right _ _) hu, Nat.le_trans (Nat.le_add_right _ _) hw⟩ dL_law_286 ?_
  refine lv_aload_n hx hb dL_law_289 rfl (lv_at hl 2 rfl) ?_
  refine l_mR (v := .int r) (As := []) (rest := [.int r]) X hM (metX3_fault l D oM qM (dA 0) (dA 1) M  _ hm) (cwV 0 X.2.2.2.2 gL_33 rfl rfl rfl hX3_fault ⟨(Nat.le_of_ble_eq_true rfl), (Nat.le_of_ble_eq_true rfl)⟩) rfl hl.1 rfl (Nat.le_of_ble_eq_true rfl) ⟨Nat.le_trans (Nat.le_add_right _ _) hu, Nat.le_trans (Nat.le_add_right _ _) hw⟩ dL_law_290 ?_
  refine lv_icmp_eq (tgt := 1639) hx hb dL_law_293 rfl (fun _ => ?_) (fun cnd => absurd rfl cnd)
  exact W.widen (Nat.le_add_right _ _) (Nat.le_add_right _ _) <| kk S M H hI hM

theorem cL_line (hS : LWS K l p m c s args b L xs) (hok : OB_line N INV) (hI : INV S M) (hM : LH D dA o q oM qM S M s H) (hi : ∀ j : Nat, j < 6 → vp_in (i0 + Int32.ofNat j) L) (hl : lv_has ls 4 [(0, .ref b), (1, .ref o), (2, .ref oM), (3, .int i0)]) (hu : u + 9000 ≤ 603072) (hw : w + 110000 ≤ 7262314) (kk : ∀ (S1 : sX) (M1 : sM) (H1 : Heap), INV S1 M1 → LH D dA o q oM qM S1 M1 s H1 → W p l e room_1 s m args below meth c H1 [] (u + 9000) (w + 110000) Q (F0 m 1639 ls [])) : W p l e room_1 s m args below meth c H [] u w Q (F0 m 298 ls []) := by
  have X := hS.1
  have hx := X.1
  have hb := X.2.1
  unfold LH at hM kk
  unfold OB_line at hok
  refine lv_aload_n hx hb dL_law_298 rfl (lv_at hl 1 rfl) ?_
  refine lv_aload_n hx hb dL_law_299 rfl (lv_at hl 0 rfl) ?_
  refine lv_iload_n hx hb dL_law_300 rfl (lv_at hl 3 rfl) ?_
  refine lv_iconst (v := 1) hx hb dL_law_301 (by decide) ?_
  refine lv_iadd hx hb dL_law_302 ?_
  refine va_sld hx hb hS.2.1 hS.2.2.1 (Nat.not_le.mpr hS.2.2.1) hM.2.2.2 (hi 1 (by decide)) dL_law_303 ?_
  refine lv_aload_n hx hb dL_law_304 rfl (lv_at hl 0 rfl) ?_
  refine lv_iload_n hx hb dL_law_305 rfl (lv_at hl 3 rfl) ?_
  refine lv_iconst (v := 2) hx hb dL_law_306 (by decide) ?_
  refine lv_iadd hx hb dL_law_307 ?_
  refine va_sld hx hb hS.2.1 hS.2.2.1 (Nat.not_le.mpr hS.2.2.1) hM.2.2.2 (hi 2 (by decide)) dL_law_308 ?_
  obtain ⟨r, hf, hm⟩ := hok S M (xs (i0 + (1 : Int32)).toNatClampNeg) (xs (i0 + (2 : Int32)).toNatClampNeg) hI
  refine l_xR (v := .int r) (As := [.int (xs (i0 + (1 : Int32)).toNatClampNeg), .int (xs (i0 + (2 : Int32)).toNatClampNeg)]) (rest := []) X hM (metX0_line l D dA o q S (xs (i0 + (1 : Int32)).toNatClampNeg) (xs (i0 + (2 : Int32)).toNatClampNeg) _ hf) (cwV 2 X.2.2.2.2 gL_34 rfl rfl rfl hX0_line ⟨(Nat.le_of_ble_eq_true rfl), (Nat.le_of_ble_eq_true rfl)⟩) rfl hl.1 rfl (Nat.le_of_ble_eq_true rfl) ⟨Nat.le_trans (Nat.le_add_right _ _) hu, Nat.le_trans (Nat.le_add_right _ _) hw⟩ dL_law_309 ?_
  refine lv_aload_n hx hb dL_law_312 rfl (lv_at hl 2 rfl) ?_
  refine lv_aload_n hx hb dL_law_313 rfl (lv_at hl 0 rfl) ?_
  refine lv_iload_n hx hb dL_law_314 rfl (lv_at hl 3 rfl) ?_
  refine lv_iconst (v := 1) hx hb dL_law_315 (by decide) ?_
  refine lv_iadd hx hb dL_law_316 ?_
  refine va_sld hx hb hS.2.1 hS.2.2.1 (Nat.not_le.mpr hS.2.2.1) hM.2.2.2 (hi 1 (by decide)) dL_law_317 ?_
  refine lv_aload_n hx hb dL_law_318 rfl (lv_at hl 0 rfl) ?_
  refine lv_iload_n hx hb dL_law_319 rfl (lv_at hl 3 rfl) ?_
  refine lv_iconst (v := 2) hx hb dL_law_320 (by decide) ?_
  refine lv_iadd hx hb dL_law_321 ?_
  refine va_sld hx hb hS.2.1 hS.2.2.1 (Nat.not_le.mpr hS.2.2.1) hM.2.2.2 (hi 2 (by decide)) dL_law_322 ?_
  refine l_mR (v := .int r) (As := [.int (xs (i0 + (1 : Int32)).toNatClampNeg), .int (xs (i0 + (2 : Int32)).toNatClampNeg)]) (rest := [.int r]) X hM (metX3_line l D oM qM (dA 0) (dA 1) N M (xs (i0 + (1 : Int32)).toNatClampNeg) (xs (i0 + (2 : Int32)).toNatClampNeg) _ hm) (cwV 2 X.2.2.2.2 gL_38 rfl rfl rfl hX3_line ⟨(Nat.le_of_ble_eq_true rfl), (Nat.le_of_ble_eq_true rfl)⟩) rfl hl.1 rfl (Nat.le_of_ble_eq_true rfl) ⟨Nat.le_trans (Nat.le_add_right _ _) hu, Nat.le_trans (Nat.le_add_right _ _) hw⟩ dL_law_323 ?_
  refine lv_icmp_eq (tgt := 1639) hx hb dL_law_326 rfl (fun _ => ?_) (fun cnd => absurd rfl cnd)
  exact W.widen (Nat.le_add_right _ _) (Nat.le_add_right _ _) <| kk S M H hI hM

theorem cL_step (hS : LWS K l p m c s args b L xs) (hok : OB_step N INV) (hI : INV S M) (hM : LH D dA o q oM qM S M s H) (hi : ∀ j : Nat, j < 6 → vp_in (i0 + Int32.ofNat j) L) (hl : lv_has ls 4 [(0, .ref b), (1, .ref o), (2, .ref oM), (3, .int i0)]) (hu : u + 9000 ≤ 603072) (hw : w + 110000 ≤ 7262314) (kk : ∀ (S1 : sX) (M1 : sM) (H1 : Heap), INV S1 M1 → LH D dA o q oM qM S1 M1 s H1 → W p l e room_1 s m args below meth c H1 [] (u + 9000) (w + 110000) Q (F0 m 1639 ls [])) : W p l e room_1 s m args below meth c H [] u w Q (F0 m 331 ls []) := by
  have X := hS.1
  have hx := X.1
  have hb := X.2.1
  unfold LH at hM kk
  unfold OB_step at hok
  refine lv_aload_n hx hb dL_law_331 rfl (lv_at hl 1 rfl) ?_
  refine lv_aload_n hx hb dL_law_332 rfl (lv_at hl 0 rfl) ?_
  refine lv_iload_n hx hb dL_law_333 rfl (lv_at hl 3 rfl) ?_
  refine lv_iconst (v := 1) hx hb dL_law_334 (by decide) ?_
  refine lv_iadd hx hb dL_law_335 ?_
  refine va_sld hx hb hS.2.1 hS.2.2.1 (Nat.not_le.mpr hS.2.2.1) hM.2.2.2 (hi 1 (by decide)) dL_law_336 ?_
  obtain ⟨r, hf, hm⟩ := hok S M (xs (i0 + (1 : Int32)).toNatClampNeg) hI
  refine l_xR (v := .int r) (As := [.int (xs (i0 + (1 : Int32)).toNatClampNeg)]) (rest := []) X hM (metX0_step l D dA o q S (xs (i0 + (1 : Int32)).toNatClampNeg) _ hf) (cwV 1 X.2.2.2.2 gL_39 rfl rfl rfl hX0_step ⟨(Nat.le_of_ble_eq_true rfl), (Nat.le_of_ble_eq_true rfl)⟩) rfl hl.1 rfl (Nat.le_of_ble_eq_true rfl) ⟨Nat.le_trans (Nat.le_add_right _ _) hu, Nat.le_trans (Nat.le_add_right _ _) hw⟩ dL_law_337 ?_
  refine lv_aload_n hx hb dL_law_340 rfl (lv_at hl 2 rfl) ?_
  refine lv_aload_n hx hb dL_law_341 rfl (lv_at hl 0 rfl) ?_
  refine lv_iload_n hx hb dL_law_342 rfl (lv_at hl 3 rfl) ?_
  refine lv_iconst (v := 1) hx hb dL_law_343 (by decide) ?_
  refine lv_iadd hx hb dL_law_344 ?_
  refine va_sld hx hb hS.2.1 hS.2.2.1 (Nat.not_le.mpr hS.2.2.1) hM.2.2.2 (hi 1 (by decide)) dL_law_345 ?_
  refine l_mR (v := .int r) (As := [.int (xs (i0 + (1 : Int32)).toNatClampNeg)]) (rest := [.int r]) X hM (metX3_step l D oM qM (dA 0) (dA 1) M (xs (i0 + (1 : Int32)).toNatClampNeg) _ hm) (cwV 1 X.2.2.2.2 gL_42 rfl rfl rfl hX3_step ⟨(Nat.le_of_ble_eq_true rfl), (Nat.le_of_ble_eq_true rfl)⟩) rfl hl.1 rfl (Nat.le_of_ble_eq_true rfl) ⟨Nat.le_trans (Nat.le_add_right _ _) hu, Nat.le_trans (Nat.le_add_right _ _) hw⟩ dL_law_346 ?_
  refine lv_icmp_eq (tgt := 1639) hx hb dL_law_349 rfl (fun _ => ?_) (fun cnd => absurd rfl cnd)
  exact W.widen (Nat.le_add_right _ _) (Nat.le_add_right _ _) <| kk S M H hI hM

theorem cL_whole (hS : LWS K l p m c s args b L xs) (hok : OB_whole N INV) (hI : INV S M) (hM : LH D dA o q oM qM S M s H) (hi : ∀ j : Nat, j < 6 → vp_in (i0 + Int32.ofNat j) L) (hl : lv_has ls 4 [(0, .ref b), (1, .ref o), (2, .ref oM), (3, .int i0)]) (hu : u + 9000 ≤ 603072) (hw : w + 110000 ≤ 7262314) (kk : ∀ (S1 : sX) (M1 : sM) (H1 : Heap), INV S1 M1 → LH D dA o q oM qM S1 M1 s H1 → W p l e room_1 s m args below meth c H1 [] (u + 9000) (w + 110000) Q (F0 m 1639 ls [])) : W p l e room_1 s m args below meth c H [] u w Q (F0 m 354 ls []) := by
  have X := hS.1
  have hx := X.1
  have hb := X.2.1
  unfold LH at hM kk
  unfold OB_whole at hok
  refine lv_aload_n hx hb dL_law_354 rfl (lv_at hl 1 rfl) ?_
  refine lv_aload_n hx hb dL_law_355 rfl (lv_at hl 0 rfl) ?_
  refine lv_iload_n hx hb dL_law_356 rfl (lv_at hl 3 rfl) ?_
  refine lv_iconst (v := 1) hx hb dL_law_357 (by decide) ?_
  refine lv_iadd hx hb dL_law_358 ?_
  refine va_sld hx hb hS.2.1 hS.2.2.1 (Nat.not_le.mpr hS.2.2.1) hM.2.2.2 (hi 1 (by decide)) dL_law_359 ?_
  obtain ⟨r, hf, hm⟩ := hok S M (xs (i0 + (1 : Int32)).toNatClampNeg) hI
  refine l_xR (v := .int r) (As := [.int (xs (i0 + (1 : Int32)).toNatClampNeg)]) (rest := []) X hM (metX0_whole l D dA o q S (xs (i0 + (1 : Int32)).toNatClampNeg) _ hf) (cwV 1 X.2.2.2.2 gL_43 rfl rfl rfl hX0_whole ⟨(Nat.le_of_ble_eq_true rfl), (Nat.le_of_ble_eq_true rfl)⟩) rfl hl.1 rfl (Nat.le_of_ble_eq_true rfl) ⟨Nat.le_trans (Nat.le_add_right _ _) hu, Nat.le_trans (Nat.le_add_right _ _) hw⟩ dL_law_360 ?_
  refine lv_aload_n hx hb dL_law_363 rfl (lv_at hl 2 rfl) ?_
  refine lv_aload_n hx hb dL_law_364 rfl (lv_at hl 0 rfl) ?_
  refine lv_iload_n hx hb dL_law_365 rfl (lv_at hl 3 rfl) ?_
  refine lv_iconst (v := 1) hx hb dL_law_366 (by decide) ?_
  refine lv_iadd hx hb dL_law_367 ?_
  refine va_sld hx hb hS.2.1 hS.2.2.1 (Nat.not_le.mpr hS.2.2.1) hM.2.2.2 (hi 1 (by decide)) dL_law_368 ?_
  refine l_mR (v := .int r) (As := [.int (xs (i0 + (1 : Int32)).toNatClampNeg)]) (rest := [.int r]) X hM (metX3_whole l D oM qM (dA 0) (dA 1) N M (xs (i0 + (1 : Int32)).toNatClampNeg) _ hm) (cwV 1 X.2.2.2.2 gL_46 rfl rfl rfl hX3_whole ⟨(Nat.le_of_ble_eq_true rfl), (Nat.le_of_ble_eq_true rfl)⟩) rfl hl.1 rfl (Nat.le_of_ble_eq_true rfl) ⟨Nat.le_trans (Nat.le_add_right _ _) hu, Nat.le_trans (Nat.le_add_right _ _) hw⟩ dL_law_369 ?_
  refine lv_icmp_eq (tgt := 1639) hx hb dL_law_372 rfl (fun _ => ?_) (fun cnd => absurd rfl cnd)
  exact W.widen (Nat.le_add_right _ _) (Nat.le_add_right _ _) <| kk S M H hI hM

theorem cL_ratio (hS : LWS K l p m c s args b L xs) (hok : OB_ratio N INV) (hI : INV S M) (hM : LH D dA o q oM qM S M s H) (hi : ∀ j : Nat, j < 6 → vp_in (i0 + Int32.ofNat j) L) (hl : lv_has ls 4 [(0, .ref b), (1, .ref o), (2, .ref oM), (3, .int i0)]) (hu : u + 9000 ≤ 603072) (hw : w + 110000 ≤ 7262314) (kk : ∀ (S1 : sX) (M1 : sM) (H1 : Heap), INV S1 M1 → LH D dA o q oM qM S1 M1 s H1 → W p l e room_1 s m args below meth c H1 [] (u + 9000) (w + 110000) Q (F0 m 1639 ls [])) : W p l e room_1 s m args below meth c H [] u w Q (F0 m 377 ls []) := by
  have X := hS.1
  have hx := X.1
  have hb := X.2.1
  unfold LH at hM kk
  unfold OB_ratio at hok
  refine lv_aload_n hx hb dL_law_377 rfl (lv_at hl 1 rfl) ?_
  refine lv_aload_n hx hb dL_law_378 rfl (lv_at hl 0 rfl) ?_
  refine lv_iload_n hx hb dL_law_379 rfl (lv_at hl 3 rfl) ?_
  refine lv_iconst (v := 1) hx hb dL_law_380 (by decide) ?_
  refine lv_iadd hx hb dL_law_381 ?_
  refine va_sld hx hb hS.2.1 hS.2.2.1 (Nat.not_le.mpr hS.2.2.1) hM.2.2.2 (hi 1 (by decide)) dL_law_382 ?_
  refine lv_aload_n hx hb dL_law_383 rfl (lv_at hl 0 rfl) ?_
  refine lv_iload_n hx hb dL_law_384 rfl (lv_at hl 3 rfl) ?_
  refine lv_iconst (v := 2) hx hb dL_law_385 (by decide) ?_
  refine lv_iadd hx hb dL_law_386 ?_
  refine va_sld hx hb hS.2.1 hS.2.2.1 (Nat.not_le.mpr hS.2.2.1) hM.2.2.2 (hi 2 (by decide)) dL_law_387 ?_
  refine lv_aload_n hx hb dL_law_388 rfl (lv_at hl 0 rfl) ?_
  refine lv_iload_n hx hb dL_law_389 rfl (lv_at hl 3 rfl) ?_
  refine lv_iconst (v := 3) hx hb dL_law_390 (by decide) ?_
  refine lv_iadd hx hb dL_law_391 ?_
  refine va_sld hx hb hS.2.1 hS.2.2.1 (Nat.not_le.mpr hS.2.2.1) hM.2.2.2 (hi 3 (by decide)) dL_law_392 ?_
  refine lv_aload_n hx hb dL_law_393 rfl (lv_at hl 0 rfl) ?_
  refine lv_iload_n hx hb dL_law_394 rfl (lv_at hl 3 rfl) ?_
  refine lv_iconst (v := 4) hx hb dL_law_395 (by decide) ?_
  refine lv_iadd hx hb dL_law_396 ?_
  refine va_sld hx hb hS.2.1 hS.2.2.1 (Nat.not_le.mpr hS.2.2.1) hM.2.2.2 (hi 4 (by decide)) dL_law_397 ?_
  obtain ⟨r, hf, hm⟩ := hok S M (xs (i0 + (1 : Int32)).toNatClampNeg) (xs (i0 + (2 : Int32)).toNatClampNeg) (xs (i0 + (3 : Int32)).toNatClampNeg) (xs (i0 + (4 : Int32)).toNatClampNeg) hI
  refine l_xR (v := .int r) (As := [.int (xs (i0 + (1 : Int32)).toNatClampNeg), .int (xs (i0 + (2 : Int32)).toNatClampNeg), .int (xs (i0 + (3 : Int32)).toNatClampNeg), .int (xs (i0 + (4 : Int32)).toNatClampNeg)]) (rest := []) X hM (metX0_ratio l D dA o q N S (xs (i0 + (1 : Int32)).toNatClampNeg) (xs (i0 + (2 : Int32)).toNatClampNeg) (xs (i0 + (3 : Int32)).toNatClampNeg) (xs (i0 + (4 : Int32)).toNatClampNeg) _ hf) (cwV 4 X.2.2.2.2 gL_47 rfl rfl rfl hX0_ratio ⟨(Nat.le_of_ble_eq_true rfl), (Nat.le_of_ble_eq_true rfl)⟩) rfl hl.1 rfl (Nat.le_of_ble_eq_true rfl) ⟨Nat.le_trans (Nat.le_add_right _ _) hu, Nat.le_trans (Nat.le_add_right _ _) hw⟩ dL_law_398 ?_
  refine lv_aload_n hx hb dL_law_401 rfl (lv_at hl 2 rfl) ?_
  refine lv_aload_n hx hb dL_law_402 rfl (lv_at hl 0 rfl) ?_
  refine lv_iload_n hx hb dL_law_403 rfl (lv_at hl 3 rfl) ?_
  refine lv_iconst (v := 1) hx hb dL_law_404 (by decide) ?_
  refine lv_iadd hx hb dL_law_405 ?_
  refine va_sld hx hb hS.2.1 hS.2.2.1 (Nat.not_le.mpr hS.2.2.1) hM.2.2.2 (hi 1 (by decide)) dL_law_406 ?_
  refine lv_aload_n hx hb dL_law_407 rfl (lv_at hl 0 rfl) ?_
  refine lv_iload_n hx hb dL_law_408 rfl (lv_at hl 3 rfl) ?_
  refine lv_iconst (v := 2) hx hb dL_law_409 (by decide) ?_
  refine lv_iadd hx hb dL_law_410 ?_
  refine va_sld hx hb hS.2.1 hS.2.2.1 (Nat.not_le.mpr hS.2.2.1) hM.2.2.2 (hi 2 (by decide)) dL_law_411 ?_
  refine lv_aload_n hx hb dL_law_412 rfl (lv_at hl 0 rfl) ?_
  refine lv_iload_n hx hb dL_law_413 rfl (lv_at hl 3 rfl) ?_
  refine lv_iconst (v := 3) hx hb dL_law_414 (by decide) ?_
  refine lv_iadd hx hb dL_law_415 ?_
  refine va_sld hx hb hS.2.1 hS.2.2.1 (Nat.not_le.mpr hS.2.2.1) hM.2.2.2 (hi 3 (by decide)) dL_law_416 ?_
  refine lv_aload_n hx hb dL_law_417 rfl (lv_at hl 0 rfl) ?_
  refine lv_iload_n hx hb dL_law_418 rfl (lv_at hl 3 rfl) ?_
  refine lv_iconst (v := 4) hx hb dL_law_419 (by decide) ?_
  refine lv_iadd hx hb dL_law_420 ?_
  refine va_sld hx hb hS.2.1 hS.2.2.1 (Nat.not_le.mpr hS.2.2.1) hM.2.2.2 (hi 4 (by decide)) dL_law_421 ?_
  refine l_mR (v := .int r) (As := [.int (xs (i0 + (1 : Int32)).toNatClampNeg), .int (xs (i0 + (2 : Int32)).toNatClampNeg), .int (xs (i0 + (3 : Int32)).toNatClampNeg), .int (xs (i0 + (4 : Int32)).toNatClampNeg)]) (rest := [.int r]) X hM (metX3_ratio l D oM qM (dA 0) (dA 1) N M (xs (i0 + (1 : Int32)).toNatClampNeg) (xs (i0 + (2 : Int32)).toNatClampNeg) (xs (i0 + (3 : Int32)).toNatClampNeg) (xs (i0 + (4 : Int32)).toNatClampNeg) _ hm) (cwV 4 X.2.2.2.2 gL_51 rfl rfl rfl hX3_ratio ⟨(Nat.le_of_ble_eq_true rfl), (Nat.le_of_ble_eq_true rfl)⟩) rfl hl.1 rfl (Nat.le_of_ble_eq_true rfl) ⟨Nat.le_trans (Nat.le_add_right _ _) hu, Nat.le_trans (Nat.le_add_right _ _) hw⟩ dL_law_422 ?_
  refine lv_icmp_eq (tgt := 1639) hx hb dL_law_425 rfl (fun _ => ?_) (fun cnd => absurd rfl cnd)
  exact W.widen (Nat.le_add_right _ _) (Nat.le_add_right _ _) <| kk S M H hI hM

theorem cL_loop (hS : LWS K l p m c s args b L xs) (hok : OB_loop N INV) (hI : INV S M) (hM : LH D dA o q oM qM S M s H) (hi : ∀ j : Nat, j < 6 → vp_in (i0 + Int32.ofNat j) L) (hl : lv_has ls 4 [(0, .ref b), (1, .ref o), (2, .ref oM), (3, .int i0)]) (hu : u + 9000 ≤ 603072) (hw : w + 110000 ≤ 7262314) (kk : ∀ (S1 : sX) (M1 : sM) (H1 : Heap), INV S1 M1 → LH D dA o q oM qM S1 M1 s H1 → W p l e room_1 s m args below meth c H1 [] (u + 9000) (w + 110000) Q (F0 m 1639 ls [])) : W p l e room_1 s m args below meth c H [] u w Q (F0 m 430 ls []) := by
  have X := hS.1
  have hx := X.1
  have hb := X.2.1
  unfold LH at hM kk
  unfold OB_loop at hok
  refine lv_aload_n hx hb dL_law_430 rfl (lv_at hl 1 rfl) ?_
  refine lv_aload_n hx hb dL_law_431 rfl (lv_at hl 0 rfl) ?_
  refine lv_iload_n hx hb dL_law_432 rfl (lv_at hl 3 rfl) ?_
  refine lv_iconst (v := 1) hx hb dL_law_433 (by decide) ?_
  refine lv_iadd hx hb dL_law_434 ?_
  refine va_sld hx hb hS.2.1 hS.2.2.1 (Nat.not_le.mpr hS.2.2.1) hM.2.2.2 (hi 1 (by decide)) dL_law_435 ?_
  refine lv_aload_n hx hb dL_law_436 rfl (lv_at hl 0 rfl) ?_
  refine lv_iload_n hx hb dL_law_437 rfl (lv_at hl 3 rfl) ?_
  refine lv_iconst (v := 2) hx hb dL_law_438 (by decide) ?_
  refine lv_iadd hx hb dL_law_439 ?_
  refine va_sld hx hb hS.2.1 hS.2.2.1 (Nat.not_le.mpr hS.2.2.1) hM.2.2.2 (hi 2 (by decide)) dL_law_440 ?_
  obtain ⟨r, hf, hm⟩ := hok S M (xs (i0 + (1 : Int32)).toNatClampNeg) (xs (i0 + (2 : Int32)).toNatClampNeg) hI
  refine l_xR (v := .int r) (As := [.int (xs (i0 + (1 : Int32)).toNatClampNeg), .int (xs (i0 + (2 : Int32)).toNatClampNeg)]) (rest := []) X hM (metX0_loop l D dA o q N S (xs (i0 + (1 : Int32)).toNatClampNeg) (xs (i0 + (2 : Int32)).toNatClampNeg) _ hf) (cwV 2 X.2.2.2.2 gL_52 rfl rfl rfl hX0_loop ⟨(Nat.le_of_ble_eq_true rfl), (Nat.le_of_ble_eq_true rfl)⟩) rfl hl.1 rfl (Nat.le_of_ble_eq_true rfl) ⟨Nat.le_trans (Nat.le_add_right _ _) hu, Nat.le_trans (Nat.le_add_right _ _) hw⟩ dL_law_441 ?_
  refine lv_aload_n hx hb dL_law_444 rfl (lv_at hl 2 rfl) ?_
  refine lv_aload_n hx hb dL_law_445 rfl (lv_at hl 0 rfl) ?_
  refine lv_iload_n hx hb dL_law_446 rfl (lv_at hl 3 rfl) ?_
  refine lv_iconst (v := 1) hx hb dL_law_447 (by decide) ?_
  refine lv_iadd hx hb dL_law_448 ?_
  refine va_sld hx hb hS.2.1 hS.2.2.1 (Nat.not_le.mpr hS.2.2.1) hM.2.2.2 (hi 1 (by decide)) dL_law_449 ?_
  refine lv_aload_n hx hb dL_law_450 rfl (lv_at hl 0 rfl) ?_
  refine lv_iload_n hx hb dL_law_451 rfl (lv_at hl 3 rfl) ?_
  refine lv_iconst (v := 2) hx hb dL_law_452 (by decide) ?_
  refine lv_iadd hx hb dL_law_453 ?_
  refine va_sld hx hb hS.2.1 hS.2.2.1 (Nat.not_le.mpr hS.2.2.1) hM.2.2.2 (hi 2 (by decide)) dL_law_454 ?_
  refine l_mR (v := .int r) (As := [.int (xs (i0 + (1 : Int32)).toNatClampNeg), .int (xs (i0 + (2 : Int32)).toNatClampNeg)]) (rest := [.int r]) X hM (metX3_loop l D oM qM (dA 0) (dA 1) N M (xs (i0 + (1 : Int32)).toNatClampNeg) (xs (i0 + (2 : Int32)).toNatClampNeg) _ hm) (cwV 2 X.2.2.2.2 gL_55 rfl rfl rfl hX3_loop ⟨(Nat.le_of_ble_eq_true rfl), (Nat.le_of_ble_eq_true rfl)⟩) rfl hl.1 rfl (Nat.le_of_ble_eq_true rfl) ⟨Nat.le_trans (Nat.le_add_right _ _) hu, Nat.le_trans (Nat.le_add_right _ _) hw⟩ dL_law_455 ?_
  refine lv_icmp_eq (tgt := 1639) hx hb dL_law_458 rfl (fun _ => ?_) (fun cnd => absurd rfl cnd)
  exact W.widen (Nat.le_add_right _ _) (Nat.le_add_right _ _) <| kk S M H hI hM

theorem cL_went (hS : LWS K l p m c s args b L xs) (hok : OB_went N INV) (hI : INV S M) (hM : LH D dA o q oM qM S M s H) (hi : ∀ j : Nat, j < 6 → vp_in (i0 + Int32.ofNat j) L) (hl : lv_has ls 4 [(0, .ref b), (1, .ref o), (2, .ref oM), (3, .int i0)]) (hu : u + 9000 ≤ 603072) (hw : w + 110000 ≤ 7262314) (kk : ∀ (S1 : sX) (M1 : sM) (H1 : Heap), INV S1 M1 → LH D dA o q oM qM S1 M1 s H1 → W p l e room_1 s m args below meth c H1 [] (u + 9000) (w + 110000) Q (F0 m 1639 ls [])) : W p l e room_1 s m args below meth c H [] u w Q (F0 m 463 ls []) := by
  have X := hS.1
  have hx := X.1
  have hb := X.2.1
  unfold LH at hM kk
  unfold OB_went at hok
  refine lv_aload_n hx hb dL_law_463 rfl (lv_at hl 1 rfl) ?_
  refine lv_aload_n hx hb dL_law_464 rfl (lv_at hl 0 rfl) ?_
  refine lv_iload_n hx hb dL_law_465 rfl (lv_at hl 3 rfl) ?_
  refine lv_iconst (v := 1) hx hb dL_law_466 (by decide) ?_
  refine lv_iadd hx hb dL_law_467 ?_
  refine va_sld hx hb hS.2.1 hS.2.2.1 (Nat.not_le.mpr hS.2.2.1) hM.2.2.2 (hi 1 (by decide)) dL_law_468 ?_
  refine lv_aload_n hx hb dL_law_469 rfl (lv_at hl 0 rfl) ?_
  refine lv_iload_n hx hb dL_law_470 rfl (lv_at hl 3 rfl) ?_
  refine lv_iconst (v := 2) hx hb dL_law_471 (by decide) ?_
  refine lv_iadd hx hb dL_law_472 ?_
  refine va_sld hx hb hS.2.1 hS.2.2.1 (Nat.not_le.mpr hS.2.2.1) hM.2.2.2 (hi 2 (by decide)) dL_law_473 ?_
  refine lv_aload_n hx hb dL_law_474 rfl (lv_at hl 0 rfl) ?_
  refine lv_iload_n hx hb dL_law_475 rfl (lv_at hl 3 rfl) ?_
  refine lv_iconst (v := 3) hx hb dL_law_476 (by decide) ?_
  refine lv_iadd hx hb dL_law_477 ?_
  refine va_sld hx hb hS.2.1 hS.2.2.1 (Nat.not_le.mpr hS.2.2.1) hM.2.2.2 (hi 3 (by decide)) dL_law_478 ?_
  obtain ⟨r, hf, hm⟩ := hok S M (xs (i0 + (1 : Int32)).toNatClampNeg) (xs (i0 + (2 : Int32)).toNatClampNeg) (xs (i0 + (3 : Int32)).toNatClampNeg) hI
  refine l_xR (v := .int r) (As := [.int (xs (i0 + (1 : Int32)).toNatClampNeg), .int (xs (i0 + (2 : Int32)).toNatClampNeg), .int (xs (i0 + (3 : Int32)).toNatClampNeg)]) (rest := []) X hM (metX0_went l D dA o q N S (xs (i0 + (1 : Int32)).toNatClampNeg) (xs (i0 + (2 : Int32)).toNatClampNeg) (xs (i0 + (3 : Int32)).toNatClampNeg) _ hf) (cwV 3 X.2.2.2.2 gL_56 rfl rfl rfl hX0_went ⟨(Nat.le_of_ble_eq_true rfl), (Nat.le_of_ble_eq_true rfl)⟩) rfl hl.1 rfl (Nat.le_of_ble_eq_true rfl) ⟨Nat.le_trans (Nat.le_add_right _ _) hu, Nat.le_trans (Nat.le_add_right _ _) hw⟩ dL_law_479 ?_
  refine lv_aload_n hx hb dL_law_482 rfl (lv_at hl 2 rfl) ?_
  refine lv_aload_n hx hb dL_law_483 rfl (lv_at hl 0 rfl) ?_
  refine lv_iload_n hx hb dL_law_484 rfl (lv_at hl 3 rfl) ?_
  refine lv_iconst (v := 1) hx hb dL_law_485 (by decide) ?_
  refine lv_iadd hx hb dL_law_486 ?_
  refine va_sld hx hb hS.2.1 hS.2.2.1 (Nat.not_le.mpr hS.2.2.1) hM.2.2.2 (hi 1 (by decide)) dL_law_487 ?_
  refine lv_aload_n hx hb dL_law_488 rfl (lv_at hl 0 rfl) ?_
  refine lv_iload_n hx hb dL_law_489 rfl (lv_at hl 3 rfl) ?_
  refine lv_iconst (v := 2) hx hb dL_law_490 (by decide) ?_
  refine lv_iadd hx hb dL_law_491 ?_
  refine va_sld hx hb hS.2.1 hS.2.2.1 (Nat.not_le.mpr hS.2.2.1) hM.2.2.2 (hi 2 (by decide)) dL_law_492 ?_
  refine lv_aload_n hx hb dL_law_493 rfl (lv_at hl 0 rfl) ?_
  refine lv_iload_n hx hb dL_law_494 rfl (lv_at hl 3 rfl) ?_
  refine lv_iconst (v := 3) hx hb dL_law_495 (by decide) ?_
  refine lv_iadd hx hb dL_law_496 ?_
  refine va_sld hx hb hS.2.1 hS.2.2.1 (Nat.not_le.mpr hS.2.2.1) hM.2.2.2 (hi 3 (by decide)) dL_law_497 ?_
  refine l_mR (v := .int r) (As := [.int (xs (i0 + (1 : Int32)).toNatClampNeg), .int (xs (i0 + (2 : Int32)).toNatClampNeg), .int (xs (i0 + (3 : Int32)).toNatClampNeg)]) (rest := [.int r]) X hM (metX3_went l D oM qM (dA 0) (dA 1) N M (xs (i0 + (1 : Int32)).toNatClampNeg) (xs (i0 + (2 : Int32)).toNatClampNeg) (xs (i0 + (3 : Int32)).toNatClampNeg) _ hm) (cwV 3 X.2.2.2.2 gL_60 rfl rfl rfl hX3_went ⟨(Nat.le_of_ble_eq_true rfl), (Nat.le_of_ble_eq_true rfl)⟩) rfl hl.1 rfl (Nat.le_of_ble_eq_true rfl) ⟨Nat.le_trans (Nat.le_add_right _ _) hu, Nat.le_trans (Nat.le_add_right _ _) hw⟩ dL_law_498 ?_
  refine lv_icmp_eq (tgt := 1639) hx hb dL_law_501 rfl (fun _ => ?_) (fun cnd => absurd rfl cnd)
  exact W.widen (Nat.le_add_right _ _) (Nat.le_add_right _ _) <| kk S M H hI hM

theorem cL_hot (hS : LWS K l p m c s args b L xs) (hok : OB_hot N INV) (hI : INV S M) (hM : LH D dA o q oM qM S M s H) (hi : ∀ j : Nat, j < 6 → vp_in (i0 + Int32.ofNat j) L) (hl : lv_has ls 4 [(0, .ref b), (1, .ref o), (2, .ref oM), (3, .int i0)]) (hu : u + 9000 ≤ 603072) (hw : w + 110000 ≤ 7262314) (kk : ∀ (S1 : sX) (M1 : sM) (H1 : Heap), INV S1 M1 → LH D dA o q oM qM S1 M1 s H1 → W p l e room_1 s m args below meth c H1 [] (u + 9000) (w + 110000) Q (F0 m 1639 ls [])) : W p l e room_1 s m args below meth c H [] u w Q (F0 m 506 ls []) := by
  have X := hS.1
  have hx := X.1
  have hb := X.2.1
  unfold LH at hM kk
  unfold OB_hot at hok
  refine lv_aload_n hx hb dL_law_506 rfl (lv_at hl 1 rfl) ?_
  refine lv_aload_n hx hb dL_law_507 rfl (lv_at hl 0 rfl) ?_
  refine lv_iload_n hx hb dL_law_508 rfl (lv_at hl 3 rfl) ?_
  refine lv_iconst (v := 1) hx hb dL_law_509 (by decide) ?_
  refine lv_iadd hx hb dL_law_510 ?_
  refine va_sld hx hb hS.2.1 hS.2.2.1 (Nat.not_le.mpr hS.2.2.1) hM.2.2.2 (hi 1 (by decide)) dL_law_511 ?_
  refine lv_aload_n hx hb dL_law_512 rfl (lv_at hl 0 rfl) ?_
  refine lv_iload_n hx hb dL_law_513 rfl (lv_at hl 3 rfl) ?_
  refine lv_iconst (v := 2) hx hb dL_law_514 (by decide) ?_
  refine lv_iadd hx hb dL_law_515 ?_
  refine va_sld hx hb hS.2.1 hS.2.2.1 (Nat.not_le.mpr hS.2.2.1) hM.2.2.2 (hi 2 (by decide)) dL_law_516 ?_
  refine lv_aload_n hx hb dL_law_517 rfl (lv_at hl 0 rfl) ?_
  refine lv_iload_n hx hb dL_law_518 rfl (lv_at hl 3 rfl) ?_
  refine lv_iconst (v := 3) hx hb dL_law_519 (by decide) ?_
  refine lv_iadd hx hb dL_law_520 ?_
  refine va_sld hx hb hS.2.1 hS.2.2.1 (Nat.not_le.mpr hS.2.2.1) hM.2.2.2 (hi 3 (by decide)) dL_law_521 ?_
  obtain ⟨r, hf, hm⟩ := hok S M (xs (i0 + (1 : Int32)).toNatClampNeg) (xs (i0 + (2 : Int32)).toNatClampNeg) (xs (i0 + (3 : Int32)).toNatClampNeg) hI
  refine l_xR (v := .int r) (As := [.int (xs (i0 + (1 : Int32)).toNatClampNeg), .int (xs (i0 + (2 : Int32)).toNatClampNeg), .int (xs (i0 + (3 : Int32)).toNatClampNeg)]) (rest := []) X hM (metX0_hot l D dA o q N S (xs (i0 + (1 : Int32)).toNatClampNeg) (xs (i0 + (2 : Int32)).toNatClampNeg) (xs (i0 + (3 : Int32)).toNatClampNeg) _ hf) (cwV 3 X.2.2.2.2 gL_61 rfl rfl rfl hX0_hot ⟨(Nat.le_of_ble_eq_true rfl), (Nat.le_of_ble_eq_true rfl)⟩) rfl hl.1 rfl (Nat.le_of_ble_eq_true rfl) ⟨Nat.le_trans (Nat.le_add_right _ _) hu, Nat.le_trans (Nat.le_add_right _ _) hw⟩ dL_law_522 ?_
  refine lv_aload_n hx hb dL_law_525 rfl (lv_at hl 2 rfl) ?_
  refine lv_aload_n hx hb dL_law_526 rfl (lv_at hl 0 rfl) ?_
  refine lv_iload_n hx hb dL_law_527 rfl (lv_at hl 3 rfl) ?_
  refine lv_iconst (v := 1) hx hb dL_law_528 (by decide) ?_
  refine lv_iadd hx hb dL_law_529 ?_
  refine va_sld hx hb hS.2.1 hS.2.2.1 (Nat.not_le.mpr hS.2.2.1) hM.2.2.2 (hi 1 (by decide)) dL_law_530 ?_
  refine lv_aload_n hx hb dL_law_531 rfl (lv_at hl 0 rfl) ?_
  refine lv_iload_n hx hb dL_law_532 rfl (lv_at hl 3 rfl) ?_
  refine lv_iconst (v := 2) hx hb dL_law_533 (by decide) ?_
  refine lv_iadd hx hb dL_law_534 ?_
  refine va_sld hx hb hS.2.1 hS.2.2.1 (Nat.not_le.mpr hS.2.2.1) hM.2.2.2 (hi 2 (by decide)) dL_law_535 ?_
  refine lv_aload_n hx hb dL_law_536 rfl (lv_at hl 0 rfl) ?_
  refine lv_iload_n hx hb dL_law_537 rfl (lv_at hl 3 rfl) ?_
  refine lv_iconst (v := 3) hx hb dL_law_538 (by decide) ?_
  refine lv_iadd hx hb dL_law_539 ?_
  refine va_sld hx hb hS.2.1 hS.2.2.1 (Nat.not_le.mpr hS.2.2.1) hM.2.2.2 (hi 3 (by decide)) dL_law_540 ?_
  refine l_mR (v := .int r) (As := [.int (xs (i0 + (1 : Int32)).toNatClampNeg), .int (xs (i0 + (2 : Int32)).toNatClampNeg), .int (xs (i0 + (3 : Int32)).toNatClampNeg)]) (rest := [.int r]) X hM (metX3_hot l D oM qM (dA 0) (dA 1) N M (xs (i0 + (1 : Int32)).toNatClampNeg) (xs (i0 + (2 : Int32)).toNatClampNeg) (xs (i0 + (3 : Int32)).toNatClampNeg) _ hm) (cwV 3 X.2.2.2.2 gL_64 rfl rfl rfl hX3_hot ⟨(Nat.le_of_ble_eq_true rfl), (Nat.le_of_ble_eq_true rfl)⟩) rfl hl.1 rfl (Nat.le_of_ble_eq_true rfl) ⟨Nat.le_trans (Nat.le_add_right _ _) hu, Nat.le_trans (Nat.le_add_right _ _) hw⟩ dL_law_541 ?_
  refine lv_icmp_eq (tgt := 1639) hx hb dL_law_544 rfl (fun _ => ?_) (fun cnd => absurd rfl cnd)
  exact W.widen (Nat.le_add_right _ _) (Nat.le_add_right _ _) <| kk S M H hI hM

theorem cL_keep (hS : LWS K l p m c s args b L xs) (hok : OB_keep N INV) (hI : INV S M) (hM : LH D dA o q oM qM S M s H) (hi : ∀ j : Nat, j < 6 → vp_in (i0 + Int32.ofNat j) L) (hl : lv_has ls 4 [(0, .ref b), (1, .ref o), (2, .ref oM), (3, .int i0)]) (hu : u + 9000 ≤ 603072) (hw : w + 110000 ≤ 7262314) (kk : ∀ (S1 : sX) (M1 : sM) (H1 : Heap), INV S1 M1 → LH D dA o q oM qM S1 M1 s H1 → W p l e room_1 s m args below meth c H1 [] (u + 9000) (w + 110000) Q (F0 m 1639 ls [])) : W p l e room_1 s m args below meth c H [] u w Q (F0 m 549 ls []) := by
  have X := hS.1
  have hx := X.1
  have hb := X.2.1
  unfold LH at hM kk
  unfold OB_keep at hok
  refine lv_aload_n hx hb dL_law_549 rfl (lv_at hl 1 rfl) ?_
  obtain ⟨r, S1, M1, hf, hm, hI⟩ := hok S M hI
  refine l_xW (v := .int r) (As := []) (rest := []) X hM (fun _ => Iff.rfl) (metX0_keep l D dA o q N S  _ _ hf) (cwV 0 X.2.2.2.2 gL_65 rfl rfl rfl hX0_keep ⟨(Nat.le_of_ble_eq_true rfl), (Nat.le_of_ble_eq_true rfl)⟩) rfl hl.1 rfl (Nat.le_of_ble_eq_true rfl) ⟨Nat.le_trans (Nat.le_add_right _ _) hu, Nat.le_trans (Nat.le_add_right _ _) hw⟩ dL_law_550 (fun H hM => ?_)
  refine lv_aload_n hx hb dL_law_553 rfl (lv_at hl 2 rfl) ?_
  refine l_mW (v := .int r) (As := []) (rest := [.int r]) X hM (fun _ => Iff.rfl) (metX3_keep l D oM qM (dA 0) (dA 1) (l_mG hM) N M  _ _ hm) (cwV 0 X.2.2.2.2 gL_68 rfl rfl rfl hX3_keep ⟨(Nat.le_of_ble_eq_true rfl), (Nat.le_of_ble_eq_true rfl)⟩) rfl hl.1 rfl (Nat.le_of_ble_eq_true rfl) ⟨Nat.le_trans (Nat.le_add_right _ _) hu, Nat.le_trans (Nat.le_add_right _ _) hw⟩ dL_law_554 (fun H hM => ?_)
  refine lv_icmp_eq (tgt := 1639) hx hb dL_law_557 rfl (fun _ => ?_) (fun cnd => absurd rfl cnd)
  exact W.widen (Nat.le_add_right _ _) (Nat.le_add_right _ _) <| kk S1 M1 H hI hM

theorem cL_beside (hS : LWS K l p m c s args b L xs) (hok : OB_beside N INV) (hI : INV S M) (hM : LH D dA o q oM qM S M s H) (hi : ∀ j : Nat, j < 6 → vp_in (i0 + Int32.ofNat j) L) (hl : lv_has ls 4 [(0, .ref b), (1, .ref o), (2, .ref oM), (3, .int i0)]) (hu : u + 9000 ≤ 603072) (hw : w + 110000 ≤ 7262314) (kk : ∀ (S1 : sX) (M1 : sM) (H1 : Heap), INV S1 M1 → LH D dA o q oM qM S1 M1 s H1 → W p l e room_1 s m args below meth c H1 [] (u + 9000) (w + 110000) Q (F0 m 1639 ls [])) : W p l e room_1 s m args below meth c H [] u w Q (F0 m 562 ls []) := by
  have X := hS.1
  have hx := X.1
  have hb := X.2.1
  unfold LH at hM kk
  unfold OB_beside at hok
  refine lv_aload_n hx hb dL_law_562 rfl (lv_at hl 1 rfl) ?_
  refine lv_aload_n hx hb dL_law_563 rfl (lv_at hl 0 rfl) ?_
  refine lv_iload_n hx hb dL_law_564 rfl (lv_at hl 3 rfl) ?_
  refine lv_iconst (v := 1) hx hb dL_law_565 (by decide) ?_
  refine lv_iadd hx hb dL_law_566 ?_
  refine va_sld hx hb hS.2.1 hS.2.2.1 (Nat.not_le.mpr hS.2.2.1) hM.2.2.2 (hi 1 (by decide)) dL_law_567 ?_
  refine lv_aload_n hx hb dL_law_568 rfl (lv_at hl 0 rfl) ?_
  refine lv_iload_n hx hb dL_law_569 rfl (lv_at hl 3 rfl) ?_
  refine lv_iconst (v := 2) hx hb dL_law_570 (by decide) ?_
  refine lv_iadd hx hb dL_law_571 ?_
  refine va_sld hx hb hS.2.1 hS.2.2.1 (Nat.not_le.mpr hS.2.2.1) hM.2.2.2 (hi 2 (by decide)) dL_law_572 ?_
  obtain ⟨r, hf, hm⟩ := hok S M (xs (i0 + (1 : Int32)).toNatClampNeg) (xs (i0 + (2 : Int32)).toNatClampNeg) hI
  refine l_xR (v := .int r) (As := [.int (xs (i0 + (1 : Int32)).toNatClampNeg), .int (xs (i0 + (2 : Int32)).toNatClampNeg)]) (rest := []) X hM (metX0_beside l D dA o q N S (xs (i0 + (1 : Int32)).toNatClampNeg) (xs (i0 + (2 : Int32)).toNatClampNeg) _ hf) (cwV 2 X.2.2.2.2 gL_69 rfl rfl rfl hX0_beside ⟨(Nat.le_of_ble_eq_true rfl), (Nat.le_of_ble_eq_true rfl)⟩) rfl hl.1 rfl (Nat.le_of_ble_eq_true rfl) ⟨Nat.le_trans (Nat.le_add_right _ _) hu, Nat.le_trans (Nat.le_add_right _ _) hw⟩ dL_law_573 ?_
  refine lv_aload_n hx hb dL_law_576 rfl (lv_at hl 2 rfl) ?_
  refine lv_aload_n hx hb dL_law_577 rfl (lv_at hl 0 rfl) ?_
  refine lv_iload_n hx hb dL_law_578 rfl (lv_at hl 3 rfl) ?_
  refine lv_iconst (v := 1) hx hb dL_law_579 (by decide) ?_
  refine lv_iadd hx hb dL_law_580 ?_
  refine va_sld hx hb hS.2.1 hS.2.2.1 (Nat.not_le.mpr hS.2.2.1) hM.2.2.2 (hi 1 (by decide)) dL_law_581 ?_
  refine lv_aload_n hx hb dL_law_582 rfl (lv_at hl 0 rfl) ?_
  refine lv_iload_n hx hb dL_law_583 rfl (lv_at hl 3 rfl) ?_
  refine lv_iconst (v := 2) hx hb dL_law_584 (by decide) ?_
  refine lv_iadd hx hb dL_law_585 ?_
  refine va_sld hx hb hS.2.1 hS.2.2.1 (Nat.not_le.mpr hS.2.2.1) hM.2.2.2 (hi 2 (by decide)) dL_law_586 ?_
  refine l_mR (v := .int r) (As := [.int (xs (i0 + (1 : Int32)).toNatClampNeg), .int (xs (i0 + (2 : Int32)).toNatClampNeg)]) (rest := [.int r]) X hM (metX3_beside l D oM qM (dA 0) (dA 1) N M (xs (i0 + (1 : Int32)).toNatClampNeg) (xs (i0 + (2 : Int32)).toNatClampNeg) _ hm) (cwV 2 X.2.2.2.2 gL_72 rfl rfl rfl hX3_beside ⟨(Nat.le_of_ble_eq_true rfl), (Nat.le_of_ble_eq_true rfl)⟩) rfl hl.1 rfl (Nat.le_of_ble_eq_true rfl) ⟨Nat.le_trans (Nat.le_add_right _ _) hu, Nat.le_trans (Nat.le_add_right _ _) hw⟩ dL_law_587 ?_
  refine lv_icmp_eq (tgt := 1639) hx hb dL_law_590 rfl (fun _ => ?_) (fun cnd => absurd rfl cnd)
  exact W.widen (Nat.le_add_right _ _) (Nat.le_add_right _ _) <| kk S M H hI hM

theorem cL_counters (hS : LWS K l p m c s args b L xs) (hok : OB_counters N INV) (hI : INV S M) (hM : LH D dA o q oM qM S M s H) (hi : ∀ j : Nat, j < 6 → vp_in (i0 + Int32.ofNat j) L) (hl : lv_has ls 4 [(0, .ref b), (1, .ref o), (2, .ref oM), (3, .int i0)]) (hu : u + 9000 ≤ 603072) (hw : w + 110000 ≤ 7262314) (kk : ∀ (S1 : sX) (M1 : sM) (H1 : Heap), INV S1 M1 → LH D dA o q oM qM S1 M1 s H1 → W p l e room_1 s m args below meth c H1 [] (u + 9000) (w + 110000) Q (F0 m 1639 ls [])) : W p l e room_1 s m args below meth c H [] u w Q (F0 m 595 ls []) := by
  have X := hS.1
  have hx := X.1
  have hb := X.2.1
  unfold LH at hM kk
  unfold OB_counters at hok
  refine lv_aload_n hx hb dL_law_595 rfl (lv_at hl 1 rfl) ?_
  refine lv_aload_n hx hb dL_law_596 rfl (lv_at hl 0 rfl) ?_
  refine lv_iload_n hx hb dL_law_597 rfl (lv_at hl 3 rfl) ?_
  refine lv_iconst (v := 1) hx hb dL_law_598 (by decide) ?_
  refine lv_iadd hx hb dL_law_599 ?_
  refine va_sld hx hb hS.2.1 hS.2.2.1 (Nat.not_le.mpr hS.2.2.1) hM.2.2.2 (hi 1 (by decide)) dL_law_600 ?_
  obtain ⟨r, S1, M1, hf, hm, hI⟩ := hok S M (xs (i0 + (1 : Int32)).toNatClampNeg) hI
  refine l_xW (v := .int r) (As := [.int (xs (i0 + (1 : Int32)).toNatClampNeg)]) (rest := []) X hM (fun _ => Iff.rfl) (metX0_counters l D dA o q N S (xs (i0 + (1 : Int32)).toNatClampNeg) _ _ hf) (cwV 1 X.2.2.2.2 gL_73 rfl rfl rfl hX0_counters ⟨(Nat.le_of_ble_eq_true rfl), (Nat.le_of_ble_eq_true rfl)⟩) rfl hl.1 rfl (Nat.le_of_ble_eq_true rfl) ⟨Nat.le_trans (Nat.le_add_right _ _) hu, Nat.le_trans (Nat.le_add_right _ _) hw⟩ dL_law_601 (fun H hM => ?_)
  refine lv_aload_n hx hb dL_law_604 rfl (lv_at hl 2 rfl) ?_
  refine lv_aload_n hx hb dL_law_605 rfl (lv_at hl 0 rfl) ?_
  refine lv_iload_n hx hb dL_law_606 rfl (lv_at hl 3 rfl) ?_
  refine lv_iconst (v := 1) hx hb dL_law_607 (by decide) ?_
  refine lv_iadd hx hb dL_law_608 ?_
  refine va_sld hx hb hS.2.1 hS.2.2.1 (Nat.not_le.mpr hS.2.2.1) hM.2.2.2 (hi 1 (by decide)) dL_law_609 ?_
  refine l_mW (v := .int r) (As := [.int (xs (i0 + (1 : Int32)).toNatClampNeg)]) (rest := [.int r]) X hM (fun _ => Iff.rfl) (metX3_counters l D oM qM (dA 0) (dA 1) (l_mG hM) N M (xs (i0 + (1 : Int32)).toNatClampNeg) _ _ hm) (cwV 1 X.2.2.2.2 gL_76 rfl rfl rfl hX3_counters ⟨(Nat.le_of_ble_eq_true rfl), (Nat.le_of_ble_eq_true rfl)⟩) rfl hl.1 rfl (Nat.le_of_ble_eq_true rfl) ⟨Nat.le_trans (Nat.le_add_right _ _) hu, Nat.le_trans (Nat.le_add_right _ _) hw⟩ dL_law_610 (fun H hM => ?_)
  refine lv_icmp_eq (tgt := 1639) hx hb dL_law_613 rfl (fun _ => ?_) (fun cnd => absurd rfl cnd)
  exact W.widen (Nat.le_add_right _ _) (Nat.le_add_right _ _) <| kk S1 M1 H hI hM

theorem cL_mask (hS : LWS K l p m c s args b L xs) (hok : OB_mask N INV) (hI : INV S M) (hM : LH D dA o q oM qM S M s H) (hi : ∀ j : Nat, j < 6 → vp_in (i0 + Int32.ofNat j) L) (hl : lv_has ls 4 [(0, .ref b), (1, .ref o), (2, .ref oM), (3, .int i0)]) (hu : u + 9000 ≤ 603072) (hw : w + 110000 ≤ 7262314) (kk : ∀ (S1 : sX) (M1 : sM) (H1 : Heap), INV S1 M1 → LH D dA o q oM qM S1 M1 s H1 → W p l e room_1 s m args below meth c H1 [] (u + 9000) (w + 110000) Q (F0 m 1639 ls [])) : W p l e room_1 s m args below meth c H [] u w Q (F0 m 618 ls []) := by
  have X := hS.1
  have hx := X.1
  have hb := X.2.1
  unfold LH at hM kk
  unfold OB_mask at hok
  refine lv_aload_n hx hb dL_law_618 rfl (lv_at hl 1 rfl) ?_
  refine lv_aload_n hx hb dL_law_619 rfl (lv_at hl 0 rfl) ?_
  refine lv_iload_n hx hb dL_law_620 rfl (lv_at hl 3 rfl) ?_
  refine lv_iconst (v := 1) hx hb dL_law_621 (by decide) ?_
  refine lv_iadd hx hb dL_law_622 ?_
  refine va_sld hx hb hS.2.1 hS.2.2.1 (Nat.not_le.mpr hS.2.2.1) hM.2.2.2 (hi 1 (by decide)) dL_law_623 ?_
  refine lv_aload_n hx hb dL_law_624 rfl (lv_at hl 0 rfl) ?_
  refine lv_iload_n hx hb dL_law_625 rfl (lv_at hl 3 rfl) ?_
  refine lv_iconst (v := 2) hx hb dL_law_626 (by decide) ?_
  refine lv_iadd hx hb dL_law_627 ?_
  refine va_sld hx hb hS.2.1 hS.2.2.1 (Nat.not_le.mpr hS.2.2.1) hM.2.2.2 (hi 2 (by decide)) dL_law_628 ?_
  obtain ⟨r, S1, M1, hf, hm, hI⟩ := hok S M (xs (i0 + (1 : Int32)).toNatClampNeg) (xs (i0 + (2 : Int32)).toNatClampNeg) hI
  refine l_xW (v := .int r) (As := [.int (xs (i0 + (1 : Int32)).toNatClampNeg), .int (xs (i0 + (2 : Int32)).toNatClampNeg)]) (rest := []) X hM (fun _ => Iff.rfl) (metX0_mask l D dA o q S (xs (i0 + (1 : Int32)).toNatClampNeg) (xs (i0 + (2 : Int32)).toNatClampNeg) _ _ hf) (cwV 2 X.2.2.2.2 gL_77 rfl rfl rfl hX0_mask ⟨(Nat.le_of_ble_eq_true rfl), (Nat.le_of_ble_eq_true rfl)⟩) rfl hl.1 rfl (Nat.le_of_ble_eq_true rfl) ⟨Nat.le_trans (Nat.le_add_right _ _) hu, Nat.le_trans (Nat.le_add_right _ _) hw⟩ dL_law_629 (fun H hM => ?_)
  refine lv_aload_n hx hb dL_law_632 rfl (lv_at hl 2 rfl) ?_
  refine lv_aload_n hx hb dL_law_633 rfl (lv_at hl 0 rfl) ?_
  refine lv_iload_n hx hb dL_law_634 rfl (lv_at hl 3 rfl) ?_
  refine lv_iconst (v := 1) hx hb dL_law_635 (by decide) ?_
  refine lv_iadd hx hb dL_law_636 ?_
  refine va_sld hx hb hS.2.1 hS.2.2.1 (Nat.not_le.mpr hS.2.2.1) hM.2.2.2 (hi 1 (by decide)) dL_law_637 ?_
  refine lv_aload_n hx hb dL_law_638 rfl (lv_at hl 0 rfl) ?_
  refine lv_iload_n hx hb dL_law_639 rfl (lv_at hl 3 rfl) ?_
  refine lv_iconst (v := 2) hx hb dL_law_640 (by decide) ?_
  refine lv_iadd hx hb dL_law_641 ?_
  refine va_sld hx hb hS.2.1 hS.2.2.1 (Nat.not_le.mpr hS.2.2.1) hM.2.2.2 (hi 2 (by decide)) dL_law_642 ?_
  refine l_mW (v := .int r) (As := [.int (xs (i0 + (1 : Int32)).toNatClampNeg), .int (xs (i0 + (2 : Int32)).toNatClampNeg)]) (rest := [.int r]) X hM (fun _ => Iff.rfl) (metX3_mask l D oM qM (dA 0) (dA 1) (l_mG hM) M (xs (i0 + (1 : Int32)).toNatClampNeg) (xs (i0 + (2 : Int32)).toNatClampNeg) _ _ hm) (cwV 2 X.2.2.2.2 gL_80 rfl rfl rfl hX3_mask ⟨(Nat.le_of_ble_eq_true rfl), (Nat.le_of_ble_eq_true rfl)⟩) rfl hl.1 rfl (Nat.le_of_ble_eq_true rfl) ⟨Nat.le_trans (Nat.le_add_right _ _) hu, Nat.le_trans (Nat.le_add_right _ _) hw⟩ dL_law_643 (fun H hM => ?_)
  refine lv_icmp_eq (tgt := 1639) hx hb dL_law_646 rfl (fun _ => ?_) (fun cnd => absurd rfl cnd)
  exact W.widen (Nat.le_add_right _ _) (Nat.le_add_right _ _) <| kk S1 M1 H hI hM

theorem cL_width (hS : LWS K l p m c s args b L xs) (hok : OB_width N INV) (hI : INV S M) (hM : LH D dA o q oM qM S M s H) (hi : ∀ j : Nat, j < 6 → vp_in (i0 + Int32.ofNat j) L) (hl : lv_has ls 4 [(0, .ref b), (1, .ref o), (2, .ref oM), (3, .int i0)]) (hu : u + 9000 ≤ 603072) (hw : w + 110000 ≤ 7262314) (kk : ∀ (S1 : sX) (M1 : sM) (H1 : Heap), INV S1 M1 → LH D dA o q oM qM S1 M1 s H1 → W p l e room_1 s m args below meth c H1 [] (u + 9000) (w + 110000) Q (F0 m 1639 ls [])) : W p l e room_1 s m args below meth c H [] u w Q (F0 m 651 ls []) := by
  have X := hS.1
  have hx := X.1
  have hb := X.2.1
  unfold LH at hM kk
  unfold OB_width at hok
  refine lv_aload_n hx hb dL_law_651 rfl (lv_at hl 1 rfl) ?_
  refine lv_aload_n hx hb dL_law_652 rfl (lv_at hl 0 rfl) ?_
  refine lv_iload_n hx hb dL_law_653 rfl (lv_at hl 3 rfl) ?_
  refine lv_iconst (v := 1) hx hb dL_law_654 (by decide) ?_
  refine lv_iadd hx hb dL_law_655 ?_
  refine va_sld hx hb hS.2.1 hS.2.2.1 (Nat.not_le.mpr hS.2.2.1) hM.2.2.2 (hi 1 (by decide)) dL_law_656 ?_
  refine lv_aload_n hx hb dL_law_657 rfl (lv_at hl 0 rfl) ?_
  refine lv_iload_n hx hb dL_law_658 rfl (lv_at hl 3 rfl) ?_
  refine lv_iconst (v := 2) hx hb dL_law_659 (by decide) ?_
  refine lv_iadd hx hb dL_law_660 ?_
  refine va_sld hx hb hS.2.1 hS.2.2.1 (Nat.not_le.mpr hS.2.2.1) hM.2.2.2 (hi 2 (by decide)) dL_law_661 ?_
  obtain ⟨r, S1, M1, hf, hm, hI⟩ := hok S M (xs (i0 + (1 : Int32)).toNatClampNeg) (xs (i0 + (2 : Int32)).toNatClampNeg) hI
  refine l_xW (v := .int r) (As := [.int (xs (i0 + (1 : Int32)).toNatClampNeg), .int (xs (i0 + (2 : Int32)).toNatClampNeg)]) (rest := []) X hM (fun _ => Iff.rfl) (metX0_width l D dA o q S (xs (i0 + (1 : Int32)).toNatClampNeg) (xs (i0 + (2 : Int32)).toNatClampNeg) _ _ hf) (cwV 2 X.2.2.2.2 gL_81 rfl rfl rfl hX0_width ⟨(Nat.le_of_ble_eq_true rfl), (Nat.le_of_ble_eq_true rfl)⟩) rfl hl.1 rfl (Nat.le_of_ble_eq_true rfl) ⟨Nat.le_trans (Nat.le_add_right _ _) hu, Nat.le_trans (Nat.le_add_right _ _) hw⟩ dL_law_662 (fun H hM => ?_)
  refine lv_aload_n hx hb dL_law_665 rfl (lv_at hl 2 rfl) ?_
  refine lv_aload_n hx hb dL_law_666 rfl (lv_at hl 0 rfl) ?_
  refine lv_iload_n hx hb dL_law_667 rfl (lv_at hl 3 rfl) ?_
  refine lv_iconst (v := 1) hx hb dL_law_668 (by decide) ?_
  refine lv_iadd hx hb dL_law_669 ?_
  refine va_sld hx hb hS.2.1 hS.2.2.1 (Nat.not_le.mpr hS.2.2.1) hM.2.2.2 (hi 1 (by decide)) dL_law_670 ?_
  refine lv_aload_n hx hb dL_law_671 rfl (lv_at hl 0 rfl) ?_
  refine lv_iload_n hx hb dL_law_672 rfl (lv_at hl 3 rfl) ?_
  refine lv_iconst (v := 2) hx hb dL_law_673 (by decide) ?_
  refine lv_iadd hx hb dL_law_674 ?_
  refine va_sld hx hb hS.2.1 hS.2.2.1 (Nat.not_le.mpr hS.2.2.1) hM.2.2.2 (hi 2 (by decide)) dL_law_675 ?_
  refine l_mW (v := .int r) (As := [.int (xs (i0 + (1 : Int32)).toNatClampNeg), .int (xs (i0 + (2 : Int32)).toNatClampNeg)]) (rest := [.int r]) X hM (fun _ => Iff.rfl) (metX3_width l D oM qM (dA 0) (dA 1) (l_mG hM) M (xs (i0 + (1 : Int32)).toNatClampNeg) (xs (i0 + (2 : Int32)).toNatClampNeg) _ _ hm) (cwV 2 X.2.2.2.2 gL_84 rfl rfl rfl hX3_width ⟨(Nat.le_of_ble_eq_true rfl), (Nat.le_of_ble_eq_true rfl)⟩) rfl hl.1 rfl (Nat.le_of_ble_eq_true rfl) ⟨Nat.le_trans (Nat.le_add_right _ _) hu, Nat.le_trans (Nat.le_add_right _ _) hw⟩ dL_law_676 (fun H hM => ?_)
  refine lv_icmp_eq (tgt := 1639) hx hb dL_law_679 rfl (fun _ => ?_) (fun cnd => absurd rfl cnd)
  exact W.widen (Nat.le_add_right _ _) (Nat.le_add_right _ _) <| kk S1 M1 H hI hM

theorem cL_together (hS : LWS K l p m c s args b L xs) (hok : OB_together N INV) (hI : INV S M) (hM : LH D dA o q oM qM S M s H) (hi : ∀ j : Nat, j < 6 → vp_in (i0 + Int32.ofNat j) L) (hl : lv_has ls 4 [(0, .ref b), (1, .ref o), (2, .ref oM), (3, .int i0)]) (hu : u + 9000 ≤ 603072) (hw : w + 110000 ≤ 7262314) (kk : ∀ (S1 : sX) (M1 : sM) (H1 : Heap), INV S1 M1 → LH D dA o q oM qM S1 M1 s H1 → W p l e room_1 s m args below meth c H1 [] (u + 9000) (w + 110000) Q (F0 m 1639 ls [])) : W p l e room_1 s m args below meth c H [] u w Q (F0 m 684 ls []) := by
  have X := hS.1
  have hx := X.1
  have hb := X.2.1
  unfold LH at hM kk
  unfold OB_together at hok
  refine lv_aload_n hx hb dL_law_684 rfl (lv_at hl 1 rfl) ?_
  refine lv_aload_n hx hb dL_law_685 rfl (lv_at hl 0 rfl) ?_
  refine lv_iload_n hx hb dL_law_686 rfl (lv_at hl 3 rfl) ?_
  refine lv_iconst (v := 1) hx hb dL_law_687 (by decide) ?_
  refine lv_iadd hx hb dL_law_688 ?_
  refine va_sld hx hb hS.2.1 hS.2.2.1 (Nat.not_le.mpr hS.2.2.1) hM.2.2.2 (hi 1 (by decide)) dL_law_689 ?_
  obtain ⟨r, hf, hm⟩ := hok S M (xs (i0 + (1 : Int32)).toNatClampNeg) hI
  refine l_xR (v := .int r) (As := [.int (xs (i0 + (1 : Int32)).toNatClampNeg)]) (rest := []) X hM (metX0_together l D dA o q N S (xs (i0 + (1 : Int32)).toNatClampNeg) _ hf) (cwV 1 X.2.2.2.2 gL_85 rfl rfl rfl hX0_together ⟨(Nat.le_of_ble_eq_true rfl), (Nat.le_of_ble_eq_true rfl)⟩) rfl hl.1 rfl (Nat.le_of_ble_eq_true rfl) ⟨Nat.le_trans (Nat.le_add_right _ _) hu, Nat.le_trans (Nat.le_add_right _ _) hw⟩ dL_law_690 ?_
  refine lv_aload_n hx hb dL_law_693 rfl (lv_at hl 2 rfl) ?_
  refine lv_aload_n hx hb dL_law_694 rfl (lv_at hl 0 rfl) ?_
  refine lv_iload_n hx hb dL_law_695 rfl (lv_at hl 3 rfl) ?_
  refine lv_iconst (v := 1) hx hb dL_law_696 (by decide) ?_
  refine lv_iadd hx hb dL_law_697 ?_
  refine va_sld hx hb hS.2.1 hS.2.2.1 (Nat.not_le.mpr hS.2.2.1) hM.2.2.2 (hi 1 (by decide)) dL_law_698 ?_
  refine l_mR (v := .int r) (As := [.int (xs (i0 + (1 : Int32)).toNatClampNeg)]) (rest := [.int r]) X hM (metX3_together l D oM qM (dA 0) (dA 1) N M (xs (i0 + (1 : Int32)).toNatClampNeg) _ hm) (cwV 1 X.2.2.2.2 gL_88 rfl rfl rfl hX3_together ⟨(Nat.le_of_ble_eq_true rfl), (Nat.le_of_ble_eq_true rfl)⟩) rfl hl.1 rfl (Nat.le_of_ble_eq_true rfl) ⟨Nat.le_trans (Nat.le_add_right _ _) hu, Nat.le_trans (Nat.le_add_right _ _) hw⟩ dL_law_699 ?_
  refine lv_icmp_eq (tgt := 1639) hx hb dL_law_702 rfl (fun _ => ?_) (fun cnd => absurd rfl cnd)
  exact W.widen (Nat.le_add_right _ _) (Nat.le_add_right _ _) <| kk S M H hI hM

theorem cL_goes (hS : LWS K l p m c s args b L xs) (hok : OB_goes N INV) (hI : INV S M) (hM : LH D dA o q oM qM S M s H) (hi : ∀ j : Nat, j < 6 → vp_in (i0 + Int32.ofNat j) L) (hl : lv_has ls 4 [(0, .ref b), (1, .ref o), (2, .ref oM), (3, .int i0)]) (hu : u + 9000 ≤ 603072) (hw : w + 110000 ≤ 7262314) (kk : ∀ (S1 : sX) (M1 : sM) (H1 : Heap), INV S1 M1 → LH D dA o q oM qM S1 M1 s H1 → W p l e room_1 s m args below meth c H1 [] (u + 9000) (w + 110000) Q (F0 m 1639 ls [])) : W p l e room_1 s m args below meth c H [] u w Q (F0 m 707 ls []) := by
  have X := hS.1
  have hx := X.1
  have hb := X.2.1
  unfold LH at hM kk
  unfold OB_goes at hok
  refine lv_aload_n hx hb dL_law_707 rfl (lv_at hl 1 rfl) ?_
  refine lv_aload_n hx hb dL_law_708 rfl (lv_at hl 0 rfl) ?_
  refine lv_iload_n hx hb dL_law_709 rfl (lv_at hl 3 rfl) ?_
  refine lv_iconst (v := 1) hx hb dL_law_710 (by decide) ?_
  refine lv_iadd hx hb dL_law_711 ?_
  refine va_sld hx hb hS.2.1 hS.2.2.1 (Nat.not_le.mpr hS.2.2.1) hM.2.2.2 (hi 1 (by decide)) dL_law_712 ?_
  refine lv_aload_n hx hb dL_law_713 rfl (lv_at hl 0 rfl) ?_
  refine lv_iload_n hx hb dL_law_714 rfl (lv_at hl 3 rfl) ?_
  refine lv_iconst (v := 2) hx hb dL_law_715 (by decide) ?_
  refine lv_iadd hx hb dL_law_716 ?_
  refine va_sld hx hb hS.2.1 hS.2.2.1 (Nat.not_le.mpr hS.2.2.1) hM.2.2.2 (hi 2 (by decide)) dL_law_717 ?_
  obtain ⟨r, hf, hm⟩ := hok S M (xs (i0 + (1 : Int32)).toNatClampNeg) (xs (i0 + (2 : Int32)).toNatClampNeg) hI
  refine l_xR (v := .int r) (As := [.int (xs (i0 + (1 : Int32)).toNatClampNeg), .int (xs (i0 + (2 : Int32)).toNatClampNeg)]) (rest := []) X hM (metX0_goes l D dA o q N S (xs (i0 + (1 : Int32)).toNatClampNeg) (xs (i0 + (2 : Int32)).toNatClampNeg) _ hf) (cwV 2 X.2.2.2.2 gL_89 rfl rfl rfl hX0_goes ⟨(Nat.le_of_ble_eq_true rfl), (Nat.le_of_ble_eq_true rfl)⟩) rfl hl.1 rfl (Nat.le_of_ble_eq_true rfl) ⟨Nat.le_trans (Nat.le_add_right _ _) hu, Nat.le_trans (Nat.le_add_right _ _) hw⟩ dL_law_718 ?_
  refine lv_aload_n hx hb dL_law_721 rfl (lv_at hl 2 rfl) ?_
  refine lv_aload_n hx hb dL_law_722 rfl (lv_at hl 0 rfl) ?_
  refine lv_iload_n hx hb dL_law_723 rfl (lv_at hl 3 rfl) ?_
  refine lv_iconst (v := 1) hx hb dL_law_724 (by decide) ?_
  refine lv_iadd hx hb dL_law_725 ?_
  refine va_sld hx hb hS.2.1 hS.2.2.1 (Nat.not_le.mpr hS.2.2.1) hM.2.2.2 (hi 1 (by decide)) dL_law_726 ?_
  refine lv_aload_n hx hb dL_law_727 rfl (lv_at hl 0 rfl) ?_
  refine lv_iload_n hx hb dL_law_728 rfl (lv_at hl 3 rfl) ?_
  refine lv_iconst (v := 2) hx hb dL_law_729 (by decide) ?_
  refine lv_iadd hx hb dL_law_730 ?_
  refine va_sld hx hb hS.2.1 hS.2.2.1 (Nat.not_le.mpr hS.2.2.1) hM.2.2.2 (hi 2 (by decide)) dL_law_731 ?_
  refine l_mR (v := .int r) (As := [.int (xs (i0 + (1 : Int32)).toNatClampNeg), .int (xs (i0 + (2 : Int32)).toNatClampNeg)]) (rest := [.int r]) X hM (metX3_goes l D oM qM (dA 0) (dA 1) N M (xs (i0 + (1 : Int32)).toNatClampNeg) (xs (i0 + (2 : Int32)).toNatClampNeg) _ hm) (cwV 2 X.2.2.2.2 gL_92 rfl rfl rfl hX3_goes ⟨(Nat.le_of_ble_eq_true rfl), (Nat.le_of_ble_eq_true rfl)⟩) rfl hl.1 rfl (Nat.le_of_ble_eq_true rfl) ⟨Nat.le_trans (Nat.le_add_right _ _) hu, Nat.le_trans (Nat.le_add_right _ _) hw⟩ dL_law_732 ?_
  refine lv_icmp_eq (tgt := 1639) hx hb dL_law_735 rfl (fun _ => ?_) (fun cnd => absurd rfl cnd)
  exact W.widen (Nat.le_add_right _ _) (Nat.le_add_right _ _) <| kk S M H hI hM

theorem cL_rounds (hS : LWS K l p m c s args b L xs) (hok : OB_rounds N INV) (hI : INV S M) (hM : LH D dA o q oM qM S M s H) (hi : ∀ j : Nat, j < 6 → vp_in (i0 + Int32.ofNat j) L) (hl : lv_has ls 4 [(0, .ref b), (1, .ref o), (2, .ref oM), (3, .int i0)]) (hu : u + 9000 ≤ 603072) (hw : w + 110000 ≤ 7262314) (kk : ∀ (S1 : sX) (M1 : sM) (H1 : Heap), INV S1 M1 → LH D dA o q oM qM S1 M1 s H1 → W p l e room_1 s m args below meth c H1 [] (u + 9000) (w + 110000) Q (F0 m 1639 ls [])) : W p l e room_1 s m args below meth c H [] u w Q (F0 m 740 ls []) := by
  have X := hS.1
  have hx := X.1
  have hb := X.2.1
  unfold LH at hM kk
  unfold OB_rounds at hok
  refine lv_aload_n hx hb dL_law_740 rfl (lv_at hl 1 rfl) ?_
  refine lv_aload_n hx hb dL_law_741 rfl (lv_at hl 0 rfl) ?_
  refine lv_iload_n hx hb dL_law_742 rfl (lv_at hl 3 rfl) ?_
  refine lv_iconst (v := 1) hx hb dL_law_743 (by decide) ?_
  refine lv_iadd hx hb dL_law_744 ?_
  refine va_sld hx hb hS.2.1 hS.2.2.1 (Nat.not_le.mpr hS.2.2.1) hM.2.2.2 (hi 1 (by decide)) dL_law_745 ?_
  refine lv_aload_n hx hb dL_law_746 rfl (lv_at hl 0 rfl) ?_
  refine lv_iload_n hx hb dL_law_747 rfl (lv_at hl 3 rfl) ?_
  refine lv_iconst (v := 2) hx hb dL_law_748 (by decide) ?_
  refine lv_iadd hx hb dL_law_749 ?_
  refine va_sld hx hb hS.2.1 hS.2.2.1 (Nat.not_le.mpr hS.2.2.1) hM.2.2.2 (hi 2 (by decide)) dL_law_750 ?_
  obtain ⟨r, S1, M1, hf, hm, hI⟩ := hok S M (xs (i0 + (1 : Int32)).toNatClampNeg) (xs (i0 + (2 : Int32)).toNatClampNeg) hI
  refine l_xW (v := .int r) (As := [.int (xs (i0 + (1 : Int32)).toNatClampNeg), .int (xs (i0 + (2 : Int32)).toNatClampNeg)]) (rest := []) X hM (fun _ => Iff.rfl) (metX0_rounds l D dA o q N S (xs (i0 + (1 : Int32)).toNatClampNeg) (xs (i0 + (2 : Int32)).toNatClampNeg) _ _ hf) (cwV 2 X.2.2.2.2 gL_93 rfl rfl rfl hX0_rounds ⟨(Nat.le_of_ble_eq_true rfl), (Nat.le_of_ble_eq_true rfl)⟩) rfl hl.1 rfl (Nat.le_of_ble_eq_true rfl) ⟨Nat.le_trans (Nat.le_add_right _ _) hu, Nat.le_trans (Nat.le_add_right _ _) hw⟩ dL_law_751 (fun H hM => ?_)
  refine lv_aload_n hx hb dL_law_754 rfl (lv_at hl 2 rfl) ?_
  refine lv_aload_n hx hb dL_law_755 rfl (lv_at hl 0 rfl) ?_
  refine lv_iload_n hx hb dL_law_756 rfl (lv_at hl 3 rfl) ?_
  refine lv_iconst (v := 1) hx hb dL_law_757 (by decide) ?_
  refine lv_iadd hx hb dL_law_758 ?_
  refine va_sld hx hb hS.2.1 hS.2.2.1 (Nat.not_le.mpr hS.2.2.1) hM.2.2.2 (hi 1 (by decide)) dL_law_759 ?_
  refine lv_aload_n hx hb dL_law_760 rfl (lv_at hl 0 rfl) ?_
  refine lv_iload_n hx hb dL_law_761 rfl (lv_at hl 3 rfl) ?_
  refine lv_iconst (v := 2) hx hb dL_law_762 (by decide) ?_
  refine lv_iadd hx hb dL_law_763 ?_
  refine va_sld hx hb hS.2.1 hS.2.2.1 (Nat.not_le.mpr hS.2.2.1) hM.2.2.2 (hi 2 (by decide)) dL_law_764 ?_
  refine l_mW (v := .int r) (As := [.int (xs (i0 + (1 : Int32)).toNatClampNeg), .int (xs (i0 + (2 : Int32)).toNatClampNeg)]) (rest := [.int r]) X hM (fun _ => Iff.rfl) (metX3_rounds l D oM qM (dA 0) (dA 1) (l_mG hM) N M (xs (i0 + (1 : Int32)).toNatClampNeg) (xs (i0 + (2 : Int32)).toNatClampNeg) _ _ hm) (cwV 2 X.2.2.2.2 gL_96 rfl rfl rfl hX3_rounds ⟨(Nat.le_of_ble_eq_true rfl), (Nat.le_of_ble_eq_true rfl)⟩) rfl hl.1 rfl (Nat.le_of_ble_eq_true rfl) ⟨Nat.le_trans (Nat.le_add_right _ _) hu, Nat.le_trans (Nat.le_add_right _ _) hw⟩ dL_law_765 (fun H hM => ?_)
  refine lv_icmp_eq (tgt := 1639) hx hb dL_law_768 rfl (fun _ => ?_) (fun cnd => absurd rfl cnd)
  exact W.widen (Nat.le_add_right _ _) (Nat.le_add_right _ _) <| kk S1 M1 H hI hM

theorem cL_sliced (hS : LWS K l p m c s args b L xs) (hok : OB_sliced N INV) (hI : INV S M) (hM : LH D dA o q oM qM S M s H) (hi : ∀ j : Nat, j < 6 → vp_in (i0 + Int32.ofNat j) L) (hl : lv_has ls 4 [(0, .ref b), (1, .ref o), (2, .ref oM), (3, .int i0)]) (hu : u + 9000 ≤ 603072) (hw : w + 110000 ≤ 7262314) (kk : ∀ (S1 : sX) (M1 : sM) (H1 : Heap), INV S1 M1 → LH D dA o q oM qM S1 M1 s H1 → W p l e room_1 s m args below meth c H1 [] (u + 9000) (w + 110000) Q (F0 m 1639 ls [])) : W p l e room_1 s m args below meth c H [] u w Q (F0 m 773 ls []) := by
  have X := hS.1
  have hx := X.1
  have hb := X.2.1
  unfold LH at hM kk
  unfold OB_sliced at hok
  refine lv_aload_n hx hb dL_law_773 rfl (lv_at hl 1 rfl) ?_
  refine lv_aload_n hx hb dL_law_774 rfl (lv_at hl 0 rfl) ?_
  refine lv_iload_n hx hb dL_law_775 rfl (lv_at hl 3 rfl) ?_
  refine lv_iconst (v := 1) hx hb dL_law_776 (by decide) ?_
  refine lv_iadd hx hb dL_law_777 ?_
  refine va_sld hx hb hS.2.1 hS.2.2.1 (Nat.not_le.mpr hS.2.2.1) hM.2.2.2 (hi 1 (by decide)) dL_law_778 ?_
  refine lv_aload_n hx hb dL_law_779 rfl (lv_at hl 0 rfl) ?_
  refine lv_iload_n hx hb dL_law_780 rfl (lv_at hl 3 rfl) ?_
  refine lv_iconst (v := 2) hx hb dL_law_781 (by decide) ?_
  refine lv_iadd hx hb dL_law_782 ?_
  refine va_sld hx hb hS.2.1 hS.2.2.1 (Nat.not_le.mpr hS.2.2.1) hM.2.2.2 (hi 2 (by decide)) dL_law_783 ?_
  refine lv_aload_n hx hb dL_law_784 rfl (lv_at hl 0 rfl) ?_
  refine lv_iload_n hx hb dL_law_785 rfl (lv_at hl 3 rfl) ?_
  refine lv_iconst (v := 3) hx hb dL_law_786 (by decide) ?_
  refine lv_iadd hx hb dL_law_787 ?_
  refine va_sld hx hb hS.2.1 hS.2.2.1 (Nat.not_le.mpr hS.2.2.1) hM.2.2.2 (hi 3 (by decide)) dL_law_788 ?_
  refine lv_aload_n hx hb dL_law_789 rfl (lv_at hl 0 rfl) ?_
  refine lv_iload_n hx hb dL_law_790 rfl (lv_at hl 3 rfl) ?_
  refine lv_iconst (v := 4) hx hb dL_law_791 (by decide) ?_
  refine lv_iadd hx hb dL_law_792 ?_
  refine va_sld hx hb hS.2.1 hS.2.2.1 (Nat.not_le.mpr hS.2.2.1) hM.2.2.2 (hi 4 (by decide)) dL_law_793 ?_
  obtain ⟨r, S1, M1, hf, hm, hI⟩ := hok S M (xs (i0 + (1 : Int32)).toNatClampNeg) (xs (i0 + (2 : Int32)).toNatClampNeg) (xs (i0 + (3 : Int32)).toNatClampNeg) (xs (i0 + (4 : Int32)).toNatClampNeg) hI
  refine l_xW (v := .int r) (As := [.int (xs (i0 + (1 : Int32)).toNatClampNeg), .int (xs (i0 + (2 : Int32)).toNatClampNeg), .int (xs (i0 + (3 : Int32)).toNatClampNeg), .int (xs (i0 + (4 : Int32)).toNatClampNeg)]) (rest := []) X hM (fun _ => Iff.rfl) (metX0_sliced l D dA o q N S (xs (i0 + (1 : Int32)).toNatClampNeg) (xs (i0 + (2 : Int32)).toNatClampNeg) (xs (i0 + (3 : Int32)).toNatClampNeg) (xs (i0 + (4 : Int32)).toNatClampNeg) _ _ hf) (cwV 4 X.2.2.2.2 gL_97 rfl rfl rfl hX0_sliced ⟨(Nat.le_of_ble_eq_true rfl), (Nat.le_of_ble_eq_true rfl)⟩) rfl hl.1 rfl (Nat.le_of_ble_eq_true rfl) ⟨Nat.le_trans (Nat.le_add_right _ _) hu, Nat.le_trans (Nat.le_add_right _ _) hw⟩ dL_law_794 (fun H hM => ?_)
  refine lv_aload_n hx hb dL_law_797 rfl (lv_at hl 2 rfl) ?_
  refine lv_aload_n hx hb dL_law_798 rfl (lv_at hl 0 rfl) ?_
  refine lv_iload_n hx hb dL_law_799 rfl (lv_at hl 3 rfl) ?_
  refine lv_iconst (v := 1) hx hb dL_law_800 (by decide) ?_
  refine lv_iadd hx hb dL_law_801 ?_
  refine va_sld hx hb hS.2.1 hS.2.2.1 (Nat.not_le.mpr hS.2.2.1) hM.2.2.2 (hi 1 (by decide)) dL_law_802 ?_
  refine lv_aload_n hx hb dL_law_803 rfl (lv_at hl 0 rfl) ?_
  refine lv_iload_n hx hb dL_law_804 rfl (lv_at hl 3 rfl) ?_
  refine lv_iconst (v := 2) hx hb dL_law_805 (by decide) ?_
  refine lv_iadd hx hb dL_law_806 ?_
  refine va_sld hx hb hS.2.1 hS.2.2.1 (Nat.not_le.mpr hS.2.2.1) hM.2.2.2 (hi 2 (by decide)) dL_law_807 ?_
  refine lv_aload_n hx hb dL_law_808 rfl (lv_at hl 0 rfl) ?_
  refine lv_iload_n hx hb dL_law_809 rfl (lv_at hl 3 rfl) ?_
  refine lv_iconst (v := 3) hx hb dL_law_810 (by decide) ?_
  refine lv_iadd hx hb dL_law_811 ?_
  refine va_sld hx hb hS.2.1 hS.2.2.1 (Nat.not_le.mpr hS.2.2.1) hM.2.2.2 (hi 3 (by decide)) dL_law_812 ?_
  refine lv_aload_n hx hb dL_law_813 rfl (lv_at hl 0 rfl) ?_
  refine lv_iload_n hx hb dL_law_814 rfl (lv_at hl 3 rfl) ?_
  refine lv_iconst (v := 4) hx hb dL_law_815 (by decide) ?_
  refine lv_iadd hx hb dL_law_816 ?_
  refine va_sld hx hb hS.2.1 hS.2.2.1 (Nat.not_le.mpr hS.2.2.1) hM.2.2.2 (hi 4 (by decide)) dL_law_817 ?_
  refine l_mW (v := .int r) (As := [.int (xs (i0 + (1 : Int32)).toNatClampNeg), .int (xs (i0 + (2 : Int32)).toNatClampNeg), .int (xs (i0 + (3 : Int32)).toNatClampNeg), .int (xs (i0 + (4 : Int32)).toNatClampNeg)]) (rest := [.int r]) X hM (fun _ => Iff.rfl) (metX3_sliced l D oM qM (dA 0) (dA 1) (l_mG hM) N M (xs (i0 + (1 : Int32)).toNatClampNeg) (xs (i0 + (2 : Int32)).toNatClampNeg) (xs (i0 + (3 : Int32)).toNatClampNeg) (xs (i0 + (4 : Int32)).toNatClampNeg) _ _ hm) (cwV 4 X.2.2.2.2 gL_100 rfl rfl rfl hX3_sliced ⟨(Nat.le_of_ble_eq_true rfl), (Nat.le_of_ble_eq_true rfl)⟩) rfl hl.1 rfl (Nat.le_of_ble_eq_true rfl) ⟨Nat.le_trans (Nat.le_add_right _ _) hu, Nat.le_trans (Nat.le_add_right _ _) hw⟩ dL_law_818 (fun H hM => ?_)
  refine lv_icmp_eq (tgt := 1639) hx hb dL_law_821 rfl (fun _ => ?_) (fun cnd => absurd rfl cnd)
  exact W.widen (Nat.le_add_right _ _) (Nat.le_add_right _ _) <| kk S1 M1 H hI hM

theorem cL_scaled (hS : LWS K l p m c s args b L xs) (hok : OB_scaled N INV) (hI : INV S M) (hM : LH D dA o q oM qM S M s H) (hi : ∀ j : Nat, j < 6 → vp_in (i0 + Int32.ofNat j) L) (hl : lv_has ls 4 [(0, .ref b), (1, .ref o), (2, .ref oM), (3, .int i0)]) (hu : u + 9000 ≤ 603072) (hw : w + 110000 ≤ 7262314) (kk : ∀ (S1 : sX) (M1 : sM) (H1 : Heap), INV S1 M1 → LH D dA o q oM qM S1 M1 s H1 → W p l e room_1 s m args below meth c H1 [] (u + 9000) (w + 110000) Q (F0 m 1639 ls [])) : W p l e room_1 s m args below meth c H [] u w Q (F0 m 826 ls []) := by
  have X := hS.1
  have hx := X.1
  have hb := X.2.1
  unfold LH at hM kk
  unfold OB_scaled at hok
  refine lv_aload_n hx hb dL_law_826 rfl (lv_at hl 1 rfl) ?_
  refine lv_aload_n hx hb dL_law_827 rfl (lv_at hl 0 rfl) ?_
  refine lv_iload_n hx hb dL_law_828 rfl (lv_at hl 3 rfl) ?_
  refine lv_iconst (v := 1) hx hb dL_law_829 (by decide) ?_
  refine lv_iadd hx hb dL_law_830 ?_
  refine va_sld hx hb hS.2.1 hS.2.2.1 (Nat.not_le.mpr hS.2.2.1) hM.2.2.2 (hi 1 (by decide)) dL_law_831 ?_
  refine lv_aload_n hx hb dL_law_832 rfl (lv_at hl 0 rfl) ?_
  refine lv_iload_n hx hb dL_law_833 rfl (lv_at hl 3 rfl) ?_
  refine lv_iconst (v := 2) hx hb dL_law_834 (by decide) ?_
  refine lv_iadd hx hb dL_law_835 ?_
  refine va_sld hx hb hS.2.1 hS.2.2.1 (Nat.not_le.mpr hS.2.2.1) hM.2.2.2 (hi 2 (by decide)) dL_law_836 ?_
  refine lv_aload_n hx hb dL_law_837 rfl (lv_at hl 0 rfl) ?_
  refine lv_iload_n hx hb dL_law_838 rfl (lv_at hl 3 rfl) ?_
  refine lv_iconst (v := 3) hx hb dL_law_839 (by decide) ?_
  refine lv_iadd hx hb dL_law_840 ?_
  refine va_sld hx hb hS.2.1 hS.2.2.1 (Nat.not_le.mpr hS.2.2.1) hM.2.2.2 (hi 3 (by decide)) dL_law_841 ?_
  refine lv_aload_n hx hb dL_law_842 rfl (lv_at hl 0 rfl) ?_
  refine lv_iload_n hx hb dL_law_843 rfl (lv_at hl 3 rfl) ?_
  refine lv_iconst (v := 4) hx hb dL_law_844 (by decide) ?_
  refine lv_iadd hx hb dL_law_845 ?_
  refine va_sld hx hb hS.2.1 hS.2.2.1 (Nat.not_le.mpr hS.2.2.1) hM.2.2.2 (hi 4 (by decide)) dL_law_846 ?_
  obtain ⟨r, S1, M1, hf, hm, hI⟩ := hok S M (xs (i0 + (1 : Int32)).toNatClampNeg) (xs (i0 + (2 : Int32)).toNatClampNeg) (xs (i0 + (3 : Int32)).toNatClampNeg) (xs (i0 + (4 : Int32)).toNatClampNeg) hI
  refine l_xW (v := .long r) (As := [.int (xs (i0 + (1 : Int32)).toNatClampNeg), .int (xs (i0 + (2 : Int32)).toNatClampNeg), .int (xs (i0 + (3 : Int32)).toNatClampNeg), .int (xs (i0 + (4 : Int32)).toNatClampNeg)]) (rest := []) X hM (fun _ => Iff.rfl) (metX0_scaled l D dA o q N S (xs (i0 + (1 : Int32)).toNatClampNeg) (xs (i0 + (2 : Int32)).toNatClampNeg) (xs (i0 + (3 : Int32)).toNatClampNeg) (xs (i0 + (4 : Int32)).toNatClampNeg) _ _ hf) (cwV 4 X.2.2.2.2 gL_101 rfl rfl rfl hX0_scaled ⟨(Nat.le_of_ble_eq_true rfl), (Nat.le_of_ble_eq_true rfl)⟩) rfl hl.1 rfl (Nat.le_of_ble_eq_true rfl) ⟨Nat.le_trans (Nat.le_add_right _ _) hu, Nat.le_trans (Nat.le_add_right _ _) hw⟩ dL_law_847 (fun H hM => ?_)
  refine lv_aload_n hx hb dL_law_850 rfl (lv_at hl 2 rfl) ?_
  refine lv_aload_n hx hb dL_law_851 rfl (lv_at hl 0 rfl) ?_
  refine lv_iload_n hx hb dL_law_852 rfl (lv_at hl 3 rfl) ?_
  refine lv_iconst (v := 1) hx hb dL_law_853 (by decide) ?_
  refine lv_iadd hx hb dL_law_854 ?_
  refine va_sld hx hb hS.2.1 hS.2.2.1 (Nat.not_le.mpr hS.2.2.1) hM.2.2.2 (hi 1 (by decide)) dL_law_855 ?_
  refine lv_aload_n hx hb dL_law_856 rfl (lv_at hl 0 rfl) ?_
  refine lv_iload_n hx hb dL_law_857 rfl (lv_at hl 3 rfl) ?_
  refine lv_iconst (v := 2) hx hb dL_law_858 (by decide) ?_
  refine lv_iadd hx hb dL_law_859 ?_
  refine va_sld hx hb hS.2.1 hS.2.2.1 (Nat.not_le.mpr hS.2.2.1) hM.2.2.2 (hi 2 (by decide)) dL_law_860 ?_
  refine lv_aload_n hx hb dL_law_861 rfl (lv_at hl 0 rfl) ?_
  refine lv_iload_n hx hb dL_law_862 rfl (lv_at hl 3 rfl) ?_
  refine lv_iconst (v := 3) hx hb dL_law_863 (by decide) ?_
  refine lv_iadd hx hb dL_law_864 ?_
  refine va_sld hx hb hS.2.1 hS.2.2.1 (Nat.not_le.mpr hS.2.2.1) hM.2.2.2 (hi 3 (by decide)) dL_law_865 ?_
  refine lv_aload_n hx hb dL_law_866 rfl (lv_at hl 0 rfl) ?_
  refine lv_iload_n hx hb dL_law_867 rfl (lv_at hl 3 rfl) ?_
  refine lv_iconst (v := 4) hx hb dL_law_868 (by decide) ?_
  refine lv_iadd hx hb dL_law_869 ?_
  refine va_sld hx hb hS.2.1 hS.2.2.1 (Nat.not_le.mpr hS.2.2.1) hM.2.2.2 (hi 4 (by decide)) dL_law_870 ?_
  refine l_mW (v := .long r) (As := [.int (xs (i0 + (1 : Int32)).toNatClampNeg), .int (xs (i0 + (2 : Int32)).toNatClampNeg), .int (xs (i0 + (3 : Int32)).toNatClampNeg), .int (xs (i0 + (4 : Int32)).toNatClampNeg)]) (rest := [.long r]) X hM (fun _ => Iff.rfl) (metX3_scaled l D oM qM (dA 0) (dA 1) (l_mG hM) N M (xs (i0 + (1 : Int32)).toNatClampNeg) (xs (i0 + (2 : Int32)).toNatClampNeg) (xs (i0 + (3 : Int32)).toNatClampNeg) (xs (i0 + (4 : Int32)).toNatClampNeg) _ _ hm) (cwV 4 X.2.2.2.2 gL_105 rfl rfl rfl hX3_scaled ⟨(Nat.le_of_ble_eq_true rfl), (Nat.le_of_ble_eq_true rfl)⟩) rfl hl.1 rfl (Nat.le_of_ble_eq_true rfl) ⟨Nat.le_trans (Nat.le_add_right _ _) hu, Nat.le_trans (Nat.le_add_right _ _) hw⟩ dL_law_871 (fun H hM => ?_)
  refine W.lcmp hx hb dL_law_874 ?_
  refine lv_if_eq (tgt := 1639) hx hb dL_law_875 rfl (fun _ => ?_) (fun cnd => absurd (lc_self _) cnd)
  exact W.widen (Nat.le_add_right _ _) (Nat.le_add_right _ _) <| kk S1 M1 H hI hM

theorem cL_finest (hS : LWS K l p m c s args b L xs) (hok : OB_finest N INV) (hI : INV S M) (hM : LH D dA o q oM qM S M s H) (hi : ∀ j : Nat, j < 6 → vp_in (i0 + Int32.ofNat j) L) (hl : lv_has ls 4 [(0, .ref b), (1, .ref o), (2, .ref oM), (3, .int i0)]) (hu : u + 9000 ≤ 603072) (hw : w + 110000 ≤ 7262314) (kk : ∀ (S1 : sX) (M1 : sM) (H1 : Heap), INV S1 M1 → LH D dA o q oM qM S1 M1 s H1 → W p l e room_1 s m args below meth c H1 [] (u + 9000) (w + 110000) Q (F0 m 1639 ls [])) : W p l e room_1 s m args below meth c H [] u w Q (F0 m 880 ls []) := by
  have X := hS.1
  have hx := X.1
  have hb := X.2.1
  unfold LH at hM kk
  unfold OB_finest at hok
  refine lv_aload_n hx hb dL_law_880 rfl (lv_at hl 1 rfl) ?_
  refine lv_aload_n hx hb dL_law_881 rfl (lv_at hl 0 rfl) ?_
  refine lv_iload_n hx hb dL_law_882 rfl (lv_at hl 3 rfl) ?_
  refine lv_iconst (v := 1) hx hb dL_law_883 (by decide) ?_
  refine lv_iadd hx hb dL_law_884 ?_
  refine va_sld hx hb hS.2.1 hS.2.2.1 (Nat.not_le.mpr hS.2.2.1) hM.2.2.2 (hi 1 (by decide)) dL_law_885 ?_
  refine lv_aload_n hx hb dL_law_886 rfl (lv_at hl 0 rfl) ?_
  refine lv_iload_n hx hb dL_law_887 rfl (lv_at hl 3 rfl) ?_
  refine lv_iconst (v := 2) hx hb dL_law_888 (by decide) ?_
  refine lv_iadd hx hb dL_law_889 ?_
  refine va_sld hx hb hS.2.1 hS.2.2.1 (Nat.not_le.mpr hS.2.2.1) hM.2.2.2 (hi 2 (by decide)) dL_law_890 ?_
  refine lv_aload_n hx hb dL_law_891 rfl (lv_at hl 0 rfl) ?_
  refine lv_iload_n hx hb dL_law_892 rfl (lv_at hl 3 rfl) ?_
  refine lv_iconst (v := 3) hx hb dL_law_893 (by decide) ?_
  refine lv_iadd hx hb dL_law_894 ?_
  refine va_sld hx hb hS.2.1 hS.2.2.1 (Nat.not_le.mpr hS.2.2.1) hM.2.2.2 (hi 3 (by decide)) dL_law_895 ?_
  refine lv_aload_n hx hb dL_law_896 rfl (lv_at hl 0 rfl) ?_
  refine lv_iload_n hx hb dL_law_897 rfl (lv_at hl 3 rfl) ?_
  refine lv_iconst (v := 4) hx hb dL_law_898 (by decide) ?_
  refine lv_iadd hx hb dL_law_899 ?_
  refine va_sld hx hb hS.2.1 hS.2.2.1 (Nat.not_le.mpr hS.2.2.1) hM.2.2.2 (hi 4 (by decide)) dL_law_900 ?_
  obtain ⟨r, S1, M1, hf, hm, hI⟩ := hok S M (xs (i0 + (1 : Int32)).toNatClampNeg) (xs (i0 + (2 : Int32)).toNatClampNeg) (xs (i0 + (3 : Int32)).toNatClampNeg) (xs (i0 + (4 : Int32)).toNatClampNeg) hI
  refine l_xW (v := .int r) (As := [.int (xs (i0 + (1 : Int32)).toNatClampNeg), .int (xs (i0 + (2 : Int32)).toNatClampNeg), .int (xs (i0 + (3 : Int32)).toNatClampNeg), .int (xs (i0 + (4 : Int32)).toNatClampNeg)]) (rest := []) X hM (fun _ => Iff.rfl) (metX0_finest l D dA o q N S (xs (i0 + (1 : Int32)).toNatClampNeg) (xs (i0 + (2 : Int32)).toNatClampNeg) (xs (i0 + (3 : Int32)).toNatClampNeg) (xs (i0 + (4 : Int32)).toNatClampNeg) _ _ hf) (cwV 4 X.2.2.2.2 gL_106 rfl rfl rfl hX0_finest ⟨(Nat.le_of_ble_eq_true rfl), (Nat.le_of_ble_eq_true rfl)⟩) rfl hl.1 rfl (Nat.le_of_ble_eq_true rfl) ⟨Nat.le_trans (Nat.le_add_right _ _) hu, Nat.le_trans (Nat.le_add_right _ _) hw⟩ dL_law_901 (fun H hM => ?_)
  refine lv_aload_n hx hb dL_law_904 rfl (lv_at hl 2 rfl) ?_
  refine lv_aload_n hx hb dL_law_905 rfl (lv_at hl 0 rfl) ?_
  refine lv_iload_n hx hb dL_law_906 rfl (lv_at hl 3 rfl) ?_
  refine lv_iconst (v := 1) hx hb dL_law_907 (by decide) ?_
  refine lv_iadd hx hb dL_law_908 ?_
  refine va_sld hx hb hS.2.1 hS.2.2.1 (Nat.not_le.mpr hS.2.2.1) hM.2.2.2 (hi 1 (by decide)) dL_law_909 ?_
  refine lv_aload_n hx hb dL_law_910 rfl (lv_at hl 0 rfl) ?_
  refine lv_iload_n hx hb dL_law_911 rfl (lv_at hl 3 rfl) ?_
  refine lv_iconst (v := 2) hx hb dL_law_912 (by decide) ?_
  refine lv_iadd hx hb dL_law_913 ?_
  refine va_sld hx hb hS.2.1 hS.2.2.1 (Nat.not_le.mpr hS.2.2.1) hM.2.2.2 (hi 2 (by decide)) dL_law_914 ?_
  refine lv_aload_n hx hb dL_law_915 rfl (lv_at hl 0 rfl) ?_
  refine lv_iload_n hx hb dL_law_916 rfl (lv_at hl 3 rfl) ?_
  refine lv_iconst (v := 3) hx hb dL_law_917 (by decide) ?_
  refine lv_iadd hx hb dL_law_918 ?_
  refine va_sld hx hb hS.2.1 hS.2.2.1 (Nat.not_le.mpr hS.2.2.1) hM.2.2.2 (hi 3 (by decide)) dL_law_919 ?_
  refine lv_aload_n hx hb dL_law_920 rfl (lv_at hl 0 rfl) ?_
  refine lv_iload_n hx hb dL_law_921 rfl (lv_at hl 3 rfl) ?_
  refine lv_iconst (v := 4) hx hb dL_law_922 (by decide) ?_
  refine lv_iadd hx hb dL_law_923 ?_
  refine va_sld hx hb hS.2.1 hS.2.2.1 (Nat.not_le.mpr hS.2.2.1) hM.2.2.2 (hi 4 (by decide)) dL_law_924 ?_
  refine l_mW (v := .int r) (As := [.int (xs (i0 + (1 : Int32)).toNatClampNeg), .int (xs (i0 + (2 : Int32)).toNatClampNeg), .int (xs (i0 + (3 : Int32)).toNatClampNeg), .int (xs (i0 + (4 : Int32)).toNatClampNeg)]) (rest := [.int r]) X hM (fun _ => Iff.rfl) (metX3_finest l D oM qM (dA 0) (dA 1) (l_mG hM) N M (xs (i0 + (1 : Int32)).toNatClampNeg) (xs (i0 + (2 : Int32)).toNatClampNeg) (xs (i0 + (3 : Int32)).toNatClampNeg) (xs (i0 + (4 : Int32)).toNatClampNeg) _ _ hm) (cwV 4 X.2.2.2.2 gL_109 rfl rfl rfl hX3_finest ⟨(Nat.le_of_ble_eq_true rfl), (Nat.le_of_ble_eq_true rfl)⟩) rfl hl.1 rfl (Nat.le_of_ble_eq_true rfl) ⟨Nat.le_trans (Nat.le_add_right _ _) hu, Nat.le_trans (Nat.le_add_right _ _) hw⟩ dL_law_925 (fun H hM => ?_)
  refine lv_icmp_eq (tgt := 1639) hx hb dL_law_928 rfl (fun _ => ?_) (fun cnd => absurd rfl cnd)
  exact W.widen (Nat.le_add_right _ _) (Nat.le_add_right _ _) <| kk S1 M1 H hI hM

theorem cL_shows (hS : LWS K l p m c s args b L xs) (hok : OB_shows N INV) (hI : INV S M) (hM : LH D dA o q oM qM S M s H) (hi : ∀ j : Nat, j < 6 → vp_in (i0 + Int32.ofNat j) L) (hl : lv_has ls 4 [(0, .ref b), (1, .ref o), (2, .ref oM), (3, .int i0)]) (hu : u + 9000 ≤ 603072) (hw : w + 110000 ≤ 7262314) (kk : ∀ (S1 : sX) (M1 : sM) (H1 : Heap), INV S1 M1 → LH D dA o q oM qM S1 M1 s H1 → W p l e room_1 s m args below meth c H1 [] (u + 9000) (w + 110000) Q (F0 m 1639 ls [])) : W p l e room_1 s m args below meth c H [] u w Q (F0 m 933 ls []) := by
  have X := hS.1
  have hx := X.1
  have hb := X.2.1
  unfold LH at hM kk
  unfold OB_shows at hok
  refine lv_aload_n hx hb dL_law_933 rfl (lv_at hl 1 rfl) ?_
  refine lv_aload_n hx hb dL_law_934 rfl (lv_at hl 0 rfl) ?_
  refine lv_iload_n hx hb dL_law_935 rfl (lv_at hl 3 rfl) ?_
  refine lv_iconst (v := 1) hx hb dL_law_936 (by decide) ?_
  refine lv_iadd hx hb dL_law_937 ?_
  refine va_sld hx hb hS.2.1 hS.2.2.1 (Nat.not_le.mpr hS.2.2.1) hM.2.2.2 (hi 1 (by decide)) dL_law_938 ?_
  refine lv_aload_n hx hb dL_law_939 rfl (lv_at hl 0 rfl) ?_
  refine lv_iload_n hx hb dL_law_940 rfl (lv_at hl 3 rfl) ?_
  refine lv_iconst (v := 2) hx hb dL_law_941 (by decide) ?_
  refine lv_iadd hx hb dL_law_942 ?_
  refine va_sld hx hb hS.2.1 hS.2.2.1 (Nat.not_le.mpr hS.2.2.1) hM.2.2.2 (hi 2 (by decide)) dL_law_943 ?_
  refine lv_aload_n hx hb dL_law_944 rfl (lv_at hl 0 rfl) ?_
  refine lv_iload_n hx hb dL_law_945 rfl (lv_at hl 3 rfl) ?_
  refine lv_iconst (v := 3) hx hb dL_law_946 (by decide) ?_
  refine lv_iadd hx hb dL_law_947 ?_
  refine va_sld hx hb hS.2.1 hS.2.2.1 (Nat.not_le.mpr hS.2.2.1) hM.2.2.2 (hi 3 (by decide)) dL_law_948 ?_
  refine lv_aload_n hx hb dL_law_949 rfl (lv_at hl 0 rfl) ?_
  refine lv_iload_n hx hb dL_law_950 rfl (lv_at hl 3 rfl) ?_
  refine lv_iconst (v := 4) hx hb dL_law_951 (by decide) ?_
  refine lv_iadd hx hb dL_law_952 ?_
  refine va_sld hx hb hS.2.1 hS.2.2.1 (Nat.not_le.mpr hS.2.2.1) hM.2.2.2 (hi 4 (by decide)) dL_law_953 ?_
  refine lv_aload_n hx hb dL_law_954 rfl (lv_at hl 0 rfl) ?_
  refine lv_iload_n hx hb dL_law_955 rfl (lv_at hl 3 rfl) ?_
  refine lv_iconst (v := 5) hx hb dL_law_956 (by decide) ?_
  refine lv_iadd hx hb dL_law_957 ?_
  refine va_sld hx hb hS.2.1 hS.2.2.1 (Nat.not_le.mpr hS.2.2.1) hM.2.2.2 (hi 5 (by decide)) dL_law_958 ?_
  obtain ⟨r, S1, M1, hf, hm, hI⟩ := hok S M (xs (i0 + (1 : Int32)).toNatClampNeg) (xs (i0 + (2 : Int32)).toNatClampNeg) (xs (i0 + (3 : Int32)).toNatClampNeg) (xs (i0 + (4 : Int32)).toNatClampNeg) (xs (i0 + (5 : Int32)).toNatClampNeg) hI
  refine l_xW (v := .int r) (As := [.int (xs (i0 + (1 : Int32)).toNatClampNeg), .int (xs (i0 + (2 : Int32)).toNatClampNeg), .int (xs (i0 + (3 : Int32)).toNatClampNeg), .int (xs (i0 + (4 : Int32)).toNatClampNeg), .int (xs (i0 + (5 : Int32)).toNatClampNeg)]) (rest := []) X hM (fun _ => Iff.rfl) (metX0_shows l D dA o q N S (xs (i0 + (1 : Int32)).toNatClampNeg) (xs (i0 + (2 : Int32)).toNatClampNeg) (xs (i0 + (3 : Int32)).toNatClampNeg) (xs (i0 + (4 : Int32)).toNatClampNeg) (xs (i0 + (5 : Int32)).toNatClampNeg) _ _ hf) (cwV 5 X.2.2.2.2 gL_110 rfl rfl rfl hX0_shows ⟨(Nat.le_of_ble_eq_true rfl), (Nat.le_of_ble_eq_true rfl)⟩) rfl hl.1 rfl (Nat.le_of_ble_eq_true rfl) ⟨Nat.le_trans (Nat.le_add_right _ _) hu, Nat.le_trans (Nat.le_add_right _ _) hw⟩ dL_law_959 (fun H hM => ?_)
  refine lv_aload_n hx hb dL_law_962 rfl (lv_at hl 2 rfl) ?_
  refine lv_aload_n hx hb dL_law_963 rfl (lv_at hl 0 rfl) ?_
  refine lv_iload_n hx hb dL_law_964 rfl (lv_at hl 3 rfl) ?_
  refine lv_iconst (v := 1) hx hb dL_law_965 (by decide) ?_
  refine lv_iadd hx hb dL_law_966 ?_
  refine va_sld hx hb hS.2.1 hS.2.2.1 (Nat.not_le.mpr hS.2.2.1) hM.2.2.2 (hi 1 (by decide)) dL_law_967 ?_
  refine lv_aload_n hx hb dL_law_968 rfl (lv_at hl 0 rfl) ?_
  refine lv_iload_n hx hb dL_law_969 rfl (lv_at hl 3 rfl) ?_
  refine lv_iconst (v := 2) hx hb dL_law_970 (by decide) ?_
  refine lv_iadd hx hb dL_law_971 ?_
  refine va_sld hx hb hS.2.1 hS.2.2.1 (Nat.not_le.mpr hS.2.2.1) hM.2.2.2 (hi 2 (by decide)) dL_law_972 ?_
  refine lv_aload_n hx hb dL_law_973 rfl (lv_at hl 0 rfl) ?_
  refine lv_iload_n hx hb dL_law_974 rfl (lv_at hl 3 rfl) ?_
  refine lv_iconst (v := 3) hx hb dL_law_975 (by decide) ?_
  refine lv_iadd hx hb dL_law_976 ?_
  refine va_sld hx hb hS.2.1 hS.2.2.1 (Nat.not_le.mpr hS.2.2.1) hM.2.2.2 (hi 3 (by decide)) dL_law_977 ?_
  refine lv_aload_n hx hb dL_law_978 rfl (lv_at hl 0 rfl) ?_
  refine lv_iload_n hx hb dL_law_979 rfl (lv_at hl 3 rfl) ?_
  refine lv_iconst (v := 4) hx hb dL_law_980 (by decide) ?_
  refine lv_iadd hx hb dL_law_981 ?_
  refine va_sld hx hb hS.2.1 hS.2.2.1 (Nat.not_le.mpr hS.2.2.1) hM.2.2.2 (hi 4 (by decide)) dL_law_982 ?_
  refine lv_aload_n hx hb dL_law_983 rfl (lv_at hl 0 rfl) ?_
  refine lv_iload_n hx hb dL_law_984 rfl (lv_at hl 3 rfl) ?_
  refine lv_iconst (v := 5) hx hb dL_law_985 (by decide) ?_
  refine lv_iadd hx hb dL_law_986 ?_
  refine va_sld hx hb hS.2.1 hS.2.2.1 (Nat.not_le.mpr hS.2.2.1) hM.2.2.2 (hi 5 (by decide)) dL_law_987 ?_
  refine l_mW (v := .int r) (As := [.int (xs (i0 + (1 : Int32)).toNatClampNeg), .int (xs (i0 + (2 : Int32)).toNatClampNeg), .int (xs (i0 + (3 : Int32)).toNatClampNeg), .int (xs (i0 + (4 : Int32)).toNatClampNeg), .int (xs (i0 + (5 : Int32)).toNatClampNeg)]) (rest := [.int r]) X hM (fun _ => Iff.rfl) (metX3_shows l D oM qM (dA 0) (dA 1) (l_mG hM) N M (xs (i0 + (1 : Int32)).toNatClampNeg) (xs (i0 + (2 : Int32)).toNatClampNeg) (xs (i0 + (3 : Int32)).toNatClampNeg) (xs (i0 + (4 : Int32)).toNatClampNeg) (xs (i0 + (5 : Int32)).toNatClampNeg) _ _ hm) (cwV 5 X.2.2.2.2 gL_114 rfl rfl rfl hX3_shows ⟨(Nat.le_of_ble_eq_true rfl), (Nat.le_of_ble_eq_true rfl)⟩) rfl hl.1 rfl (Nat.le_of_ble_eq_true rfl) ⟨Nat.le_trans (Nat.le_add_right _ _) hu, Nat.le_trans (Nat.le_add_right _ _) hw⟩ dL_law_988 (fun H hM => ?_)
  refine lv_icmp_eq (tgt := 1639) hx hb dL_law_991 rfl (fun _ => ?_) (fun cnd => absurd rfl cnd)
  exact W.widen (Nat.le_add_right _ _) (Nat.le_add_right _ _) <| kk S1 M1 H hI hM

theorem cL_samples (hS : LWS K l p m c s args b L xs) (hok : OB_samples N INV) (hI : INV S M) (hM : LH D dA o q oM qM S M s H) (hi : ∀ j : Nat, j < 6 → vp_in (i0 + Int32.ofNat j) L) (hl : lv_has ls 4 [(0, .ref b), (1, .ref o), (2, .ref oM), (3, .int i0)]) (hu : u + 9000 ≤ 603072) (hw : w + 110000 ≤ 7262314) (kk : ∀ (S1 : sX) (M1 : sM) (H1 : Heap), INV S1 M1 → LH D dA o q oM qM S1 M1 s H1 → W p l e room_1 s m args below meth c H1 [] (u + 9000) (w + 110000) Q (F0 m 1639 ls [])) : W p l e room_1 s m args below meth c H [] u w Q (F0 m 996 ls []) := by
  have X := hS.1
  have hx := X.1
  have hb := X.2.1
  unfold LH at hM kk
  unfold OB_samples at hok
  refine lv_aload_n hx hb dL_law_996 rfl (lv_at hl 1 rfl) ?_
  refine lv_aload_n hx hb dL_law_997 rfl (lv_at hl 0 rfl) ?_
  refine lv_iload_n hx hb dL_law_998 rfl (lv_at hl 3 rfl) ?_
  refine lv_iconst (v := 1) hx hb dL_law_999 (by decide) ?_
  refine lv_iadd hx hb dL_law_1000 ?_
  refine va_sld hx hb hS.2.1 hS.2.2.1 (Nat.not_le.mpr hS.2.2.1) hM.2.2.2 (hi 1 (by decide)) dL_law_1001 ?_
  refine lv_aload_n hx hb dL_law_1002 rfl (lv_at hl 0 rfl) ?_
  refine lv_iload_n hx hb dL_law_1003 rfl (lv_at hl 3 rfl) ?_
  refine lv_iconst (v := 2) hx hb dL_law_1004 (by decide) ?_
  refine lv_iadd hx hb dL_law_1005 ?_
  refine va_sld hx hb hS.2.1 hS.2.2.1 (Nat.not_le.mpr hS.2.2.1) hM.2.2.2 (hi 2 (by decide)) dL_law_1006 ?_
  refine lv_aload_n hx hb dL_law_1007 rfl (lv_at hl 0 rfl) ?_
  refine lv_iload_n hx hb dL_law_1008 rfl (lv_at hl 3 rfl) ?_
  refine lv_iconst (v := 3) hx hb dL_law_1009 (by decide) ?_
  refine lv_iadd hx hb dL_law_1010 ?_
  refine va_sld hx hb hS.2.1 hS.2.2.1 (Nat.not_le.mpr hS.2.2.1) hM.2.2.2 (hi 3 (by decide)) dL_law_1011 ?_
  refine lv_aload_n hx hb dL_law_1012 rfl (lv_at hl 0 rfl) ?_
  refine lv_iload_n hx hb dL_law_1013 rfl (lv_at hl 3 rfl) ?_
  refine lv_iconst (v := 4) hx hb dL_law_1014 (by decide) ?_
  refine lv_iadd hx hb dL_law_1015 ?_
  refine va_sld hx hb hS.2.1 hS.2.2.1 (Nat.not_le.mpr hS.2.2.1) hM.2.2.2 (hi 4 (by decide)) dL_law_1016 ?_
  refine lv_aload_n hx hb dL_law_1017 rfl (lv_at hl 0 rfl) ?_
  refine lv_iload_n hx hb dL_law_1018 rfl (lv_at hl 3 rfl) ?_
  refine lv_iconst (v := 5) hx hb dL_law_1019 (by decide) ?_
  refine lv_iadd hx hb dL_law_1020 ?_
  refine va_sld hx hb hS.2.1 hS.2.2.1 (Nat.not_le.mpr hS.2.2.1) hM.2.2.2 (hi 5 (by decide)) dL_law_1021 ?_
  obtain ⟨r, S1, M1, hf, hm, hI⟩ := hok S M (xs (i0 + (1 : Int32)).toNatClampNeg) (xs (i0 + (2 : Int32)).toNatClampNeg) (xs (i0 + (3 : Int32)).toNatClampNeg) (xs (i0 + (4 : Int32)).toNatClampNeg) (xs (i0 + (5 : Int32)).toNatClampNeg) hI
  refine l_xW (v := .int r) (As := [.int (xs (i0 + (1 : Int32)).toNatClampNeg), .int (xs (i0 + (2 : Int32)).toNatClampNeg), .int (xs (i0 + (3 : Int32)).toNatClampNeg), .int (xs (i0 + (4 : Int32)).toNatClampNeg), .int (xs (i0 + (5 : Int32)).toNatClampNeg)]) (rest := []) X hM (fun _ => Iff.rfl) (metX0_samples l D dA o q N S (xs (i0 + (1 : Int32)).toNatClampNeg) (xs (i0 + (2 : Int32)).toNatClampNeg) (xs (i0 + (3 : Int32)).toNatClampNeg) (xs (i0 + (4 : Int32)).toNatClampNeg) (xs (i0 + (5 : Int32)).toNatClampNeg) _ _ hf) (cwV 5 X.2.2.2.2 gL_115 rfl rfl rfl hX0_samples ⟨(Nat.le_of_ble_eq_true rfl), (Nat.le_of_ble_eq_true rfl)⟩) rfl hl.1 rfl (Nat.le_of_ble_eq_true rfl) ⟨Nat.le_trans (Nat.le_add_right _ _) hu, Nat.le_trans (Nat.le_add_right _ _) hw⟩ dL_law_1022 (fun H hM => ?_)
  refine lv_aload_n hx hb dL_law_1025 rfl (lv_at hl 2 rfl) ?_
  refine lv_aload_n hx hb dL_law_1026 rfl (lv_at hl 0 rfl) ?_
  refine lv_iload_n hx hb dL_law_1027 rfl (lv_at hl 3 rfl) ?_
  refine lv_iconst (v := 1) hx hb dL_law_1028 (by decide) ?_
  refine lv_iadd hx hb dL_law_1029 ?_
  refine va_sld hx hb hS.2.1 hS.2.2.1 (Nat.not_le.mpr hS.2.2.1) hM.2.2.2 (hi 1 (by decide)) dL_law_1030 ?_
  refine lv_aload_n hx hb dL_law_1031 rfl (lv_at hl 0 rfl) ?_
  refine lv_iload_n hx hb dL_law_1032 rfl (lv_at hl 3 rfl) ?_
  refine lv_iconst (v := 2) hx hb dL_law_1033 (by decide) ?_
  refine lv_iadd hx hb dL_law_1034 ?_
  refine va_sld hx hb hS.2.1 hS.2.2.1 (Nat.not_le.mpr hS.2.2.1) hM.2.2.2 (hi 2 (by decide)) dL_law_1035 ?_
  refine lv_aload_n hx hb dL_law_1036 rfl (lv_at hl 0 rfl) ?_
  refine lv_iload_n hx hb dL_law_1037 rfl (lv_at hl 3 rfl) ?_
  refine lv_iconst (v := 3) hx hb dL_law_1038 (by decide) ?_
  refine lv_iadd hx hb dL_law_1039 ?_
  refine va_sld hx hb hS.2.1 hS.2.2.1 (Nat.not_le.mpr hS.2.2.1) hM.2.2.2 (hi 3 (by decide)) dL_law_1040 ?_
  refine lv_aload_n hx hb dL_law_1041 rfl (lv_at hl 0 rfl) ?_
  refine lv_iload_n hx hb dL_law_1042 rfl (lv_at hl 3 rfl) ?_
  refine lv_iconst (v := 4) hx hb dL_law_1043 (by decide) ?_
  refine lv_iadd hx hb dL_law_1044 ?_
  refine va_sld hx hb hS.2.1 hS.2.2.1 (Nat.not_le.mpr hS.2.2.1) hM.2.2.2 (hi 4 (by decide)) dL_law_1045 ?_
  refine lv_aload_n hx hb dL_law_1046 rfl (lv_at hl 0 rfl) ?_
  refine lv_iload_n hx hb dL_law_1047 rfl (lv_at hl 3 rfl) ?_
  refine lv_iconst (v := 5) hx hb dL_law_1048 (by decide) ?_
  refine lv_iadd hx hb dL_law_1049 ?_
  refine va_sld hx hb hS.2.1 hS.2.2.1 (Nat.not_le.mpr hS.2.2.1) hM.2.2.2 (hi 5 (by decide)) dL_law_1050 ?_
  refine l_mW (v := .int r) (As := [.int (xs (i0 + (1 : Int32)).toNatClampNeg), .int (xs (i0 + (2 : Int32)).toNatClampNeg), .int (xs (i0 + (3 : Int32)).toNatClampNeg), .int (xs (i0 + (4 : Int32)).toNatClampNeg), .int (xs (i0 + (5 : Int32)).toNatClampNeg)]) (rest := [.int r]) X hM (fun _ => Iff.rfl) (metX3_samples l D oM qM (dA 0) (dA 1) (l_mG hM) N M (xs (i0 + (1 : Int32)).toNatClampNeg) (xs (i0 + (2 : Int32)).toNatClampNeg) (xs (i0 + (3 : Int32)).toNatClampNeg) (xs (i0 + (4 : Int32)).toNatClampNeg) (xs (i0 + (5 : Int32)).toNatClampNeg) _ _ hm) (cwV 5 X.2.2.2.2 gL_118 rfl rfl rfl hX3_samples ⟨(Nat.le_of_ble_eq_true rfl), (Nat.le_of_ble_eq_true rfl)⟩) rfl hl.1 rfl (Nat.le_of_ble_eq_true rfl) ⟨Nat.le_trans (Nat.le_add_right _ _) hu, Nat.le_trans (Nat.le_add_right _ _) hw⟩ dL_law_1051 (fun H hM => ?_)
  refine lv_icmp_eq (tgt := 1639) hx hb dL_law_1054 rfl (fun _ => ?_) (fun cnd => absurd rfl cnd)
  exact W.widen (Nat.le_add_right _ _) (Nat.le_add_right _ _) <| kk S1 M1 H hI hM

theorem cL_far (hS : LWS K l p m c s args b L xs) (hok : OB_far N INV) (hI : INV S M) (hM : LH D dA o q oM qM S M s H) (hi : ∀ j : Nat, j < 6 → vp_in (i0 + Int32.ofNat j) L) (hl : lv_has ls 4 [(0, .ref b), (1, .ref o), (2, .ref oM), (3, .int i0)]) (hu : u + 9000 ≤ 603072) (hw : w + 110000 ≤ 7262314) (kk : ∀ (S1 : sX) (M1 : sM) (H1 : Heap), INV S1 M1 → LH D dA o q oM qM S1 M1 s H1 → W p l e room_1 s m args below meth c H1 [] (u + 9000) (w + 110000) Q (F0 m 1639 ls [])) : W p l e room_1 s m args below meth c H [] u w Q (F0 m 1059 ls []) := by
  have X := hS.1
  have hx := X.1
  have hb := X.2.1
  unfold LH at hM kk
  unfold OB_far at hok
  refine lv_aload_n hx hb dL_law_1059 rfl (lv_at hl 1 rfl) ?_
  refine lv_aload_n hx hb dL_law_1060 rfl (lv_at hl 0 rfl) ?_
  refine lv_iload_n hx hb dL_law_1061 rfl (lv_at hl 3 rfl) ?_
  refine lv_iconst (v := 1) hx hb dL_law_1062 (by decide) ?_
  refine lv_iadd hx hb dL_law_1063 ?_
  refine va_sld hx hb hS.2.1 hS.2.2.1 (Nat.not_le.mpr hS.2.2.1) hM.2.2.2 (hi 1 (by decide)) dL_law_1064 ?_
  refine lv_aload_n hx hb dL_law_1065 rfl (lv_at hl 0 rfl) ?_
  refine lv_iload_n hx hb dL_law_1066 rfl (lv_at hl 3 rfl) ?_
  refine lv_iconst (v := 2) hx hb dL_law_1067 (by decide) ?_
  refine lv_iadd hx hb dL_law_1068 ?_
  refine va_sld hx hb hS.2.1 hS.2.2.1 (Nat.not_le.mpr hS.2.2.1) hM.2.2.2 (hi 2 (by decide)) dL_law_1069 ?_
  refine lv_aload_n hx hb dL_law_1070 rfl (lv_at hl 0 rfl) ?_
  refine lv_iload_n hx hb dL_law_1071 rfl (lv_at hl 3 rfl) ?_
  refine lv_iconst (v := 3) hx hb dL_law_1072 (by decide) ?_
  refine lv_iadd hx hb dL_law_1073 ?_
  refine va_sld hx hb hS.2.1 hS.2.2.1 (Nat.not_le.mpr hS.2.2.1) hM.2.2.2 (hi 3 (by decide)) dL_law_1074 ?_
  refine lv_aload_n hx hb dL_law_1075 rfl (lv_at hl 0 rfl) ?_
  refine lv_iload_n hx hb dL_law_1076 rfl (lv_at hl 3 rfl) ?_
  refine lv_iconst (v := 4) hx hb dL_law_1077 (by decide) ?_
  refine lv_iadd hx hb dL_law_1078 ?_
  refine va_sld hx hb hS.2.1 hS.2.2.1 (Nat.not_le.mpr hS.2.2.1) hM.2.2.2 (hi 4 (by decide)) dL_law_1079 ?_
  refine lv_aload_n hx hb dL_law_1080 rfl (lv_at hl 0 rfl) ?_
  refine lv_iload_n hx hb dL_law_1081 rfl (lv_at hl 3 rfl) ?_
  refine lv_iconst (v := 5) hx hb dL_law_1082 (by decide) ?_
  refine lv_iadd hx hb dL_law_1083 ?_
  refine va_sld hx hb hS.2.1 hS.2.2.1 (Nat.not_le.mpr hS.2.2.1) hM.2.2.2 (hi 5 (by decide)) dL_law_1084 ?_
  obtain ⟨r, S1, M1, hf, hm, hI⟩ := hok S M (xs (i0 + (1 : Int32)).toNatClampNeg) (xs (i0 + (2 : Int32)).toNatClampNeg) (xs (i0 + (3 : Int32)).toNatClampNeg) (xs (i0 + (4 : Int32)).toNatClampNeg) (xs (i0 + (5 : Int32)).toNatClampNeg) hI
  refine l_xW (v := .long r) (As := [.int (xs (i0 + (1 : Int32)).toNatClampNeg), .int (xs (i0 + (2 : Int32)).toNatClampNeg), .int (xs (i0 + (3 : Int32)).toNatClampNeg), .int (xs (i0 + (4 : Int32)).toNatClampNeg), .int (xs (i0 + (5 : Int32)).toNatClampNeg)]) (rest := []) X hM (fun _ => Iff.rfl) (metX0_far l D dA o q N S (xs (i0 + (1 : Int32)).toNatClampNeg) (xs (i0 + (2 : Int32)).toNatClampNeg) (xs (i0 + (3 : Int32)).toNatClampNeg) (xs (i0 + (4 : Int32)).toNatClampNeg) (xs (i0 + (5 : Int32)).toNatClampNeg) _ _ hf) (cwV 5 X.2.2.2.2 gL_119 rfl rfl rfl hX0_far ⟨(Nat.le_of_ble_eq_true rfl), (Nat.le_of_ble_eq_true rfl)⟩) rfl hl.1 rfl (Nat.le_of_ble_eq_true rfl) ⟨Nat.le_trans (Nat.le_add_right _ _) hu, Nat.le_trans (Nat.le_add_right _ _) hw⟩ dL_law_1085 (fun H hM => ?_)
  refine lv_aload_n hx hb dL_law_1088 rfl (lv_at hl 2 rfl) ?_
  refine lv_aload_n hx hb dL_law_1089 rfl (lv_at hl 0 rfl) ?_
  refine lv_iload_n hx hb dL_law_1090 rfl (lv_at hl 3 rfl) ?_
  refine lv_iconst (v := 1) hx hb dL_law_1091 (by decide) ?_
  refine lv_iadd hx hb dL_law_1092 ?_
  refine va_sld hx hb hS.2.1 hS.2.2.1 (Nat.not_le.mpr hS.2.2.1) hM.2.2.2 (hi 1 (by decide)) dL_law_1093 ?_
  refine lv_aload_n hx hb dL_law_1094 rfl (lv_at hl 0 rfl) ?_
  refine lv_iload_n hx hb dL_law_1095 rfl (lv_at hl 3 rfl) ?_
  refine lv_iconst (v := 2) hx hb dL_law_1096 (by decide) ?_
  refine lv_iadd hx hb dL_law_1097 ?_
  refine va_sld hx hb hS.2.1 hS.2.2.1 (Nat.not_le.mpr hS.2.2.1) hM.2.2.2 (hi 2 (by decide)) dL_law_1098 ?_
  refine lv_aload_n hx hb dL_law_1099 rfl (lv_at hl 0 rfl) ?_
  refine lv_iload_n hx hb dL_law_1100 rfl (lv_at hl 3 rfl) ?_
  refine lv_iconst (v := 3) hx hb dL_law_1101 (by decide) ?_
  refine lv_iadd hx hb dL_law_1102 ?_
  refine va_sld hx hb hS.2.1 hS.2.2.1 (Nat.not_le.mpr hS.2.2.1) hM.2.2.2 (hi 3 (by decide)) dL_law_1103 ?_
  refine lv_aload_n hx hb dL_law_1104 rfl (lv_at hl 0 rfl) ?_
  refine lv_iload_n hx hb dL_law_1105 rfl (lv_at hl 3 rfl) ?_
  refine lv_iconst (v := 4) hx hb dL_law_1106 (by decide) ?_
  refine lv_iadd hx hb dL_law_1107 ?_
  refine va_sld hx hb hS.2.1 hS.2.2.1 (Nat.not_le.mpr hS.2.2.1) hM.2.2.2 (hi 4 (by decide)) dL_law_1108 ?_
  refine lv_aload_n hx hb dL_law_1109 rfl (lv_at hl 0 rfl) ?_
  refine lv_iload_n hx hb dL_law_1110 rfl (lv_at hl 3 rfl) ?_
  refine lv_iconst (v := 5) hx hb dL_law_1111 (by decide) ?_
  refine lv_iadd hx hb dL_law_1112 ?_
  refine va_sld hx hb hS.2.1 hS.2.2.1 (Nat.not_le.mpr hS.2.2.1) hM.2.2.2 (hi 5 (by decide)) dL_law_1113 ?_
  refine l_mW (v := .long r) (As := [.int (xs (i0 + (1 : Int32)).toNatClampNeg), .int (xs (i0 + (2 : Int32)).toNatClampNeg), .int (xs (i0 + (3 : Int32)).toNatClampNeg), .int (xs (i0 + (4 : Int32)).toNatClampNeg), .int (xs (i0 + (5 : Int32)).toNatClampNeg)]) (rest := [.long r]) X hM (fun _ => Iff.rfl) (metX3_far l D oM qM (dA 0) (dA 1) (l_mG hM) N M (xs (i0 + (1 : Int32)).toNatClampNeg) (xs (i0 + (2 : Int32)).toNatClampNeg) (xs (i0 + (3 : Int32)).toNatClampNeg) (xs (i0 + (4 : Int32)).toNatClampNeg) (xs (i0 + (5 : Int32)).toNatClampNeg) _ _ hm) (cwV 5 X.2.2.2.2 gL_123 rfl rfl rfl hX3_far ⟨(Nat.le_of_ble_eq_true rfl), (Nat.le_of_ble_eq_true rfl)⟩) rfl hl.1 rfl (Nat.le_of_ble_eq_true rfl) ⟨Nat.le_trans (Nat.le_add_right _ _) hu, Nat.le_trans (Nat.le_add_right _ _) hw⟩ dL_law_1114 (fun H hM => ?_)
  refine W.lcmp hx hb dL_law_1117 ?_
  refine lv_if_eq (tgt := 1639) hx hb dL_law_1118 rfl (fun _ => ?_) (fun cnd => absurd (lc_self _) cnd)
  exact W.widen (Nat.le_add_right _ _) (Nat.le_add_right _ _) <| kk S1 M1 H hI hM

theorem cL_truest (hS : LWS K l p m c s args b L xs) (hok : OB_truest N INV) (hI : INV S M) (hM : LH D dA o q oM qM S M s H) (hi : ∀ j : Nat, j < 6 → vp_in (i0 + Int32.ofNat j) L) (hl : lv_has ls 4 [(0, .ref b), (1, .ref o), (2, .ref oM), (3, .int i0)]) (hu : u + 9000 ≤ 603072) (hw : w + 110000 ≤ 7262314) (kk : ∀ (S1 : sX) (M1 : sM) (H1 : Heap), INV S1 M1 → LH D dA o q oM qM S1 M1 s H1 → W p l e room_1 s m args below meth c H1 [] (u + 9000) (w + 110000) Q (F0 m 1639 ls [])) : W p l e room_1 s m args below meth c H [] u w Q (F0 m 1123 ls []) := by
  have X := hS.1
  have hx := X.1
  have hb := X.2.1
  unfold LH at hM kk
  unfold OB_truest at hok
  refine lv_aload_n hx hb dL_law_1123 rfl (lv_at hl 1 rfl) ?_
  refine lv_aload_n hx hb dL_law_1124 rfl (lv_at hl 0 rfl) ?_
  refine lv_iload_n hx hb dL_law_1125 rfl (lv_at hl 3 rfl) ?_
  refine lv_iconst (v := 1) hx hb dL_law_1126 (by decide) ?_
  refine lv_iadd hx hb dL_law_1127 ?_
  refine va_sld hx hb hS.2.1 hS.2.2.1 (Nat.not_le.mpr hS.2.2.1) hM.2.2.2 (hi 1 (by decide)) dL_law_1128 ?_
  refine lv_aload_n hx hb dL_law_1129 rfl (lv_at hl 0 rfl) ?_
  refine lv_iload_n hx hb dL_law_1130 rfl (lv_at hl 3 rfl) ?_
  refine lv_iconst (v := 2) hx hb dL_law_1131 (by decide) ?_
  refine lv_iadd hx hb dL_law_1132 ?_
  refine va_sld hx hb hS.2.1 hS.2.2.1 (Nat.not_le.mpr hS.2.2.1) hM.2.2.2 (hi 2 (by decide)) dL_law_1133 ?_
  refine lv_aload_n hx hb dL_law_1134 rfl (lv_at hl 0 rfl) ?_
  refine lv_iload_n hx hb dL_law_1135 rfl (lv_at hl 3 rfl) ?_
  refine lv_iconst (v := 3) hx hb dL_law_1136 (by decide) ?_
  refine lv_iadd hx hb dL_law_1137 ?_
  refine va_sld hx hb hS.2.1 hS.2.2.1 (Nat.not_le.mpr hS.2.2.1) hM.2.2.2 (hi 3 (by decide)) dL_law_1138 ?_
  refine lv_aload_n hx hb dL_law_1139 rfl (lv_at hl 0 rfl) ?_
  refine lv_iload_n hx hb dL_law_1140 rfl (lv_at hl 3 rfl) ?_
  refine lv_iconst (v := 4) hx hb dL_law_1141 (by decide) ?_
  refine lv_iadd hx hb dL_law_1142 ?_
  refine va_sld hx hb hS.2.1 hS.2.2.1 (Nat.not_le.mpr hS.2.2.1) hM.2.2.2 (hi 4 (by decide)) dL_law_1143 ?_
  obtain ⟨r, S1, M1, hf, hm, hI⟩ := hok S M (xs (i0 + (1 : Int32)).toNatClampNeg) (xs (i0 + (2 : Int32)).toNatClampNeg) (xs (i0 + (3 : Int32)).toNatClampNeg) (xs (i0 + (4 : Int32)).toNatClampNeg) hI
  refine l_xW (v := .int r) (As := [.int (xs (i0 + (1 : Int32)).toNatClampNeg), .int (xs (i0 + (2 : Int32)).toNatClampNeg), .int (xs (i0 + (3 : Int32)).toNatClampNeg), .int (xs (i0 + (4 : Int32)).toNatClampNeg)]) (rest := []) X hM (fun _ => Iff.rfl) (metX0_truest l D dA o q N S (xs (i0 + (1 : Int32)).toNatClampNeg) (xs (i0 + (2 : Int32)).toNatClampNeg) (xs (i0 + (3 : Int32)).toNatClampNeg) (xs (i0 + (4 : Int32)).toNatClampNeg) _ _ hf) (cwV 4 X.2.2.2.2 gL_124 rfl rfl rfl hX0_truest ⟨(Nat.le_of_ble_eq_true rfl), (Nat.le_of_ble_eq_true rfl)⟩) rfl hl.1 rfl (Nat.le_of_ble_eq_true rfl) ⟨Nat.le_trans (Nat.le_add_right _ _) hu, Nat.le_trans (Nat.le_add_right _ _) hw⟩ dL_law_1144 (fun H hM => ?_)
  refine lv_aload_n hx hb dL_law_1147 rfl (lv_at hl 2 rfl) ?_
  refine lv_aload_n hx hb dL_law_1148 rfl (lv_at hl 0 rfl) ?_
  refine lv_iload_n hx hb dL_law_1149 rfl (lv_at hl 3 rfl) ?_
  refine lv_iconst (v := 1) hx hb dL_law_1150 (by decide) ?_
  refine lv_iadd hx hb dL_law_1151 ?_
  refine va_sld hx hb hS.2.1 hS.2.2.1 (Nat.not_le.mpr hS.2.2.1) hM.2.2.2 (hi 1 (by decide)) dL_law_1152 ?_
  refine lv_aload_n hx hb dL_law_1153 rfl (lv_at hl 0 rfl) ?_
  refine lv_iload_n hx hb dL_law_1154 rfl (lv_at hl 3 rfl) ?_
  refine lv_iconst (v := 2) hx hb dL_law_1155 (by decide) ?_
  refine lv_iadd hx hb dL_law_1156 ?_
  refine va_sld hx hb hS.2.1 hS.2.2.1 (Nat.not_le.mpr hS.2.2.1) hM.2.2.2 (hi 2 (by decide)) dL_law_1157 ?_
  refine lv_aload_n hx hb dL_law_1158 rfl (lv_at hl 0 rfl) ?_
  refine lv_iload_n hx hb dL_law_1159 rfl (lv_at hl 3 rfl) ?_
  refine lv_iconst (v := 3) hx hb dL_law_1160 (by decide) ?_
  refine lv_iadd hx hb dL_law_1161 ?_
  refine va_sld hx hb hS.2.1 hS.2.2.1 (Nat.not_le.mpr hS.2.2.1) hM.2.2.2 (hi 3 (by decide)) dL_law_1162 ?_
  refine lv_aload_n hx hb dL_law_1163 rfl (lv_at hl 0 rfl) ?_
  refine lv_iload_n hx hb dL_law_1164 rfl (lv_at hl 3 rfl) ?_
  refine lv_iconst (v := 4) hx hb dL_law_1165 (by decide) ?_
  refine lv_iadd hx hb dL_law_1166 ?_
  refine va_sld hx hb hS.2.1 hS.2.2.1 (Nat.not_le.mpr hS.2.2.1) hM.2.2.2 (hi 4 (by decide)) dL_law_1167 ?_
  refine l_mW (v := .int r) (As := [.int (xs (i0 + (1 : Int32)).toNatClampNeg), .int (xs (i0 + (2 : Int32)).toNatClampNeg), .int (xs (i0 + (3 : Int32)).toNatClampNeg), .int (xs (i0 + (4 : Int32)).toNatClampNeg)]) (rest := [.int r]) X hM (fun _ => Iff.rfl) (metX3_truest l D oM qM (dA 0) (dA 1) (l_mG hM) N M (xs (i0 + (1 : Int32)).toNatClampNeg) (xs (i0 + (2 : Int32)).toNatClampNeg) (xs (i0 + (3 : Int32)).toNatClampNeg) (xs (i0 + (4 : Int32)).toNatClampNeg) _ _ hm) (cwV 4 X.2.2.2.2 gL_127 rfl rfl rfl hX3_truest ⟨(Nat.le_of_ble_eq_true rfl), (Nat.le_of_ble_eq_true rfl)⟩) rfl hl.1 rfl (Nat.le_of_ble_eq_true rfl) ⟨Nat.le_trans (Nat.le_add_right _ _) hu, Nat.le_trans (Nat.le_add_right _ _) hw⟩ dL_law_1168 (fun H hM => ?_)
  refine lv_icmp_eq (tgt := 1639) hx hb dL_law_1171 rfl (fun _ => ?_) (fun cnd => absurd rfl cnd)
  exact W.widen (Nat.le_add_right _ _) (Nat.le_add_right _ _) <| kk S1 M1 H hI hM

theorem cL_beats (hS : LWS K l p m c s args b L xs) (hok : OB_beats N INV) (hI : INV S M) (hM : LH D dA o q oM qM S M s H) (hi : ∀ j : Nat, j < 6 → vp_in (i0 + Int32.ofNat j) L) (hl : lv_has ls 4 [(0, .ref b), (1, .ref o), (2, .ref oM), (3, .int i0)]) (hu : u + 9000 ≤ 603072) (hw : w + 110000 ≤ 7262314) (kk : ∀ (S1 : sX) (M1 : sM) (H1 : Heap), INV S1 M1 → LH D dA o q oM qM S1 M1 s H1 → W p l e room_1 s m args below meth c H1 [] (u + 9000) (w + 110000) Q (F0 m 1639 ls [])) : W p l e room_1 s m args below meth c H [] u w Q (F0 m 1176 ls []) := by
  have X := hS.1
  have hx := X.1
  have hb := X.2.1
  unfold LH at hM kk
  unfold OB_beats at hok
  refine lv_aload_n hx hb dL_law_1176 rfl (lv_at hl 1 rfl) ?_
  refine lv_aload_n hx hb dL_law_1177 rfl (lv_at hl 0 rfl) ?_
  refine lv_iload_n hx hb dL_law_1178 rfl (lv_at hl 3 rfl) ?_
  refine lv_iconst (v := 1) hx hb dL_law_1179 (by decide) ?_
  refine lv_iadd hx hb dL_law_1180 ?_
  refine va_sld hx hb hS.2.1 hS.2.2.1 (Nat.not_le.mpr hS.2.2.1) hM.2.2.2 (hi 1 (by decide)) dL_law_1181 ?_
  refine lv_aload_n hx hb dL_law_1182 rfl (lv_at hl 0 rfl) ?_
  refine lv_iload_n hx hb dL_law_1183 rfl (lv_at hl 3 rfl) ?_
  refine lv_iconst (v := 2) hx hb dL_law_1184 (by decide) ?_
  refine lv_iadd hx hb dL_law_1185 ?_
  refine va_sld hx hb hS.2.1 hS.2.2.1 (Nat.not_le.mpr hS.2.2.1) hM.2.2.2 (hi 2 (by decide)) dL_law_1186 ?_
  refine lv_aload_n hx hb dL_law_1187 rfl (lv_at hl 0 rfl) ?_
  refine lv_iload_n hx hb dL_law_1188 rfl (lv_at hl 3 rfl) ?_
  refine lv_iconst (v := 3) hx hb dL_law_1189 (by decide) ?_
  refine lv_iadd hx hb dL_law_1190 ?_
  refine va_sld hx hb hS.2.1 hS.2.2.1 (Nat.not_le.mpr hS.2.2.1) hM.2.2.2 (hi 3 (by decide)) dL_law_1191 ?_
  refine lv_aload_n hx hb dL_law_1192 rfl (lv_at hl 0 rfl) ?_
  refine lv_iload_n hx hb dL_law_1193 rfl (lv_at hl 3 rfl) ?_
  refine lv_iconst (v := 4) hx hb dL_law_1194 (by decide) ?_
  refine lv_iadd hx hb dL_law_1195 ?_
  refine va_sld hx hb hS.2.1 hS.2.2.1 (Nat.not_le.mpr hS.2.2.1) hM.2.2.2 (hi 4 (by decide)) dL_law_1196 ?_
  obtain ⟨r, hf, hm⟩ := hok S M (xs (i0 + (1 : Int32)).toNatClampNeg) (xs (i0 + (2 : Int32)).toNatClampNeg) (xs (i0 + (3 : Int32)).toNatClampNeg) (xs (i0 + (4 : Int32)).toNatClampNeg) hI
  refine l_xR (v := .int r) (As := [.int (xs (i0 + (1 : Int32)).toNatClampNeg), .int (xs (i0 + (2 : Int32)).toNatClampNeg), .int (xs (i0 + (3 : Int32)).toNatClampNeg), .int (xs (i0 + (4 : Int32)).toNatClampNeg)]) (rest := []) X hM (metX0_beats l D dA o q N S (xs (i0 + (1 : Int32)).toNatClampNeg) (xs (i0 + (2 : Int32)).toNatClampNeg) (xs (i0 + (3 : Int32)).toNatClampNeg) (xs (i0 + (4 : Int32)).toNatClampNeg) _ hf) (cwV 4 X.2.2.2.2 gL_128 rfl rfl rfl hX0_beats ⟨(Nat.le_of_ble_eq_true rfl), (Nat.le_of_ble_eq_true rfl)⟩) rfl hl.1 rfl (Nat.le_of_ble_eq_true rfl) ⟨Nat.le_trans (Nat.le_add_right _ _) hu, Nat.le_trans (Nat.le_add_right _ _) hw⟩ dL_law_1197 ?_
  refine lv_aload_n hx hb dL_law_1200 rfl (lv_at hl 2 rfl) ?_
  refine lv_aload_n hx hb dL_law_1201 rfl (lv_at hl 0 rfl) ?_
  refine lv_iload_n hx hb dL_law_1202 rfl (lv_at hl 3 rfl) ?_
  refine lv_iconst (v := 1) hx hb dL_law_1203 (by decide) ?_
  refine lv_iadd hx hb dL_law_1204 ?_
  refine va_sld hx hb hS.2.1 hS.2.2.1 (Nat.not_le.mpr hS.2.2.1) hM.2.2.2 (hi 1 (by decide)) dL_law_1205 ?_
  refine lv_aload_n hx hb dL_law_1206 rfl (lv_at hl 0 rfl) ?_
  refine lv_iload_n hx hb dL_law_1207 rfl (lv_at hl 3 rfl) ?_
  refine lv_iconst (v := 2) hx hb dL_law_1208 (by decide) ?_
  refine lv_iadd hx hb dL_law_1209 ?_
  refine va_sld hx hb hS.2.1 hS.2.2.1 (Nat.not_le.mpr hS.2.2.1) hM.2.2.2 (hi 2 (by decide)) dL_law_1210 ?_
  refine lv_aload_n hx hb dL_law_1211 rfl (lv_at hl 0 rfl) ?_
  refine lv_iload_n hx hb dL_law_1212 rfl (lv_at hl 3 rfl) ?_
  refine lv_iconst (v := 3) hx hb dL_law_1213 (by decide) ?_
  refine lv_iadd hx hb dL_law_1214 ?_
  refine va_sld hx hb hS.2.1 hS.2.2.1 (Nat.not_le.mpr hS.2.2.1) hM.2.2.2 (hi 3 (by decide)) dL_law_1215 ?_
  refine lv_aload_n hx hb dL_law_1216 rfl (lv_at hl 0 rfl) ?_
  refine lv_iload_n hx hb dL_law_1217 rfl (lv_at hl 3 rfl) ?_
  refine lv_iconst (v := 4) hx hb dL_law_1218 (by decide) ?_
  refine lv_iadd hx hb dL_law_1219 ?_
  refine va_sld hx hb hS.2.1 hS.2.2.1 (Nat.not_le.mpr hS.2.2.1) hM.2.2.2 (hi 4 (by decide)) dL_law_1220 ?_
  refine l_mR (v := .int r) (As := [.int (xs (i0 + (1 : Int32)).toNatClampNeg), .int (xs (i0 + (2 : Int32)).toNatClampNeg), .int (xs (i0 + (3 : Int32)).toNatClampNeg), .int (xs (i0 + (4 : Int32)).toNatClampNeg)]) (rest := [.int r]) X hM (metX3_beats l D oM qM (dA 0) (dA 1) N M (xs (i0 + (1 : Int32)).toNatClampNeg) (xs (i0 + (2 : Int32)).toNatClampNeg) (xs (i0 + (3 : Int32)).toNatClampNeg) (xs (i0 + (4 : Int32)).toNatClampNeg) _ hm) (cwV 4 X.2.2.2.2 gL_131 rfl rfl rfl hX3_beats ⟨(Nat.le_of_ble_eq_true rfl), (Nat.le_of_ble_eq_true rfl)⟩) rfl hl.1 rfl (Nat.le_of_ble_eq_true rfl) ⟨Nat.le_trans (Nat.le_add_right _ _) hu, Nat.le_trans (Nat.le_add_right _ _) hw⟩ dL_law_1221 ?_
  refine lv_icmp_eq (tgt := 1639) hx hb dL_law_1224 rfl (fun _ => ?_) (fun cnd => absurd rfl cnd)
  exact W.widen (Nat.le_add_right _ _) (Nat.le_add_right _ _) <| kk S M H hI hM

theorem cL_over (hS : LWS K l p m c s args b L xs) (hok : OB_over N INV) (hI : INV S M) (hM : LH D dA o q oM qM S M s H) (hi : ∀ j : Nat, j < 6 → vp_in (i0 + Int32.ofNat j) L) (hl : lv_has ls 4 [(0, .ref b), (1, .ref o), (2, .ref oM), (3, .int i0)]) (hu : u + 9000 ≤ 603072) (hw : w + 110000 ≤ 7262314) (kk : ∀ (S1 : sX) (M1 : sM) (H1 : Heap), INV S1 M1 → LH D dA o q oM qM S1 M1 s H1 → W p l e room_1 s m args below meth c H1 [] (u + 9000) (w + 110000) Q (F0 m 1639 ls [])) : W p l e room_1 s m args below meth c H [] u w Q (F0 m 1229 ls []) := by
  have X := hS.1
  have hx := X.1
  have hb := X.2.1
  unfold LH at hM kk
  unfold OB_over at hok
  refine lv_aload_n hx hb dL_law_1229 rfl (lv_at hl 1 rfl) ?_
  refine lv_aload_n hx hb dL_law_1230 rfl (lv_at hl 0 rfl) ?_
  refine lv_iload_n hx hb dL_law_1231 rfl (lv_at hl 3 rfl) ?_
  refine lv_iconst (v := 1) hx hb dL_law_1232 (by decide) ?_
  refine lv_iadd hx hb dL_law_1233 ?_
  refine va_sld hx hb hS.2.1 hS.2.2.1 (Nat.not_le.mpr hS.2.2.1) hM.2.2.2 (hi 1 (by decide)) dL_law_1234 ?_
  refine lv_aload_n hx hb dL_law_1235 rfl (lv_at hl 0 rfl) ?_
  refine lv_iload_n hx hb dL_law_1236 rfl (lv_at hl 3 rfl) ?_
  refine lv_iconst (v := 2) hx hb dL_law_1237 (by decide) ?_
  refine lv_iadd hx hb dL_law_1238 ?_
  refine va_sld hx hb hS.2.1 hS.2.2.1 (Nat.not_le.mpr hS.2.2.1) hM.2.2.2 (hi 2 (by decide)) dL_law_1239 ?_
  refine lv_aload_n hx hb dL_law_1240 rfl (lv_at hl 0 rfl) ?_
  refine lv_iload_n hx hb dL_law_1241 rfl (lv_at hl 3 rfl) ?_
  refine lv_iconst (v := 3) hx hb dL_law_1242 (by decide) ?_
  refine lv_iadd hx hb dL_law_1243 ?_
  refine va_sld hx hb hS.2.1 hS.2.2.1 (Nat.not_le.mpr hS.2.2.1) hM.2.2.2 (hi 3 (by decide)) dL_law_1244 ?_
  refine lv_aload_n hx hb dL_law_1245 rfl (lv_at hl 0 rfl) ?_
  refine lv_iload_n hx hb dL_law_1246 rfl (lv_at hl 3 rfl) ?_
  refine lv_iconst (v := 4) hx hb dL_law_1247 (by decide) ?_
  refine lv_iadd hx hb dL_law_1248 ?_
  refine va_sld hx hb hS.2.1 hS.2.2.1 (Nat.not_le.mpr hS.2.2.1) hM.2.2.2 (hi 4 (by decide)) dL_law_1249 ?_
  obtain ⟨r, hf, hm⟩ := hok S M (xs (i0 + (1 : Int32)).toNatClampNeg) (xs (i0 + (2 : Int32)).toNatClampNeg) (xs (i0 + (3 : Int32)).toNatClampNeg) (xs (i0 + (4 : Int32)).toNatClampNeg) hI
  refine l_xR (v := .int r) (As := [.int (xs (i0 + (1 : Int32)).toNatClampNeg), .int (xs (i0 + (2 : Int32)).toNatClampNeg), .int (xs (i0 + (3 : Int32)).toNatClampNeg), .int (xs (i0 + (4 : Int32)).toNatClampNeg)]) (rest := []) X hM (metX0_over l D dA o q S (xs (i0 + (1 : Int32)).toNatClampNeg) (xs (i0 + (2 : Int32)).toNatClampNeg) (xs (i0 + (3 : Int32)).toNatClampNeg) (xs (i0 + (4 : Int32)).toNatClampNeg) _ hf) (cwV 4 X.2.2.2.2 gL_132 rfl rfl rfl hX0_over ⟨(Nat.le_of_ble_eq_true rfl), (Nat.le_of_ble_eq_true rfl)⟩) rfl hl.1 rfl (Nat.le_of_ble_eq_true rfl) ⟨Nat.le_trans (Nat.le_add_right _ _) hu, Nat.le_trans (Nat.le_add_right _ _) hw⟩ dL_law_1250 ?_
  refine lv_aload_n hx hb dL_law_1253 rfl (lv_at hl 2 rfl) ?_
  refine lv_aload_n hx hb dL_law_1254 rfl (lv_at hl 0 rfl) ?_
  refine lv_iload_n hx hb dL_law_1255 rfl (lv_at hl 3 rfl) ?_
  refine lv_iconst (v := 1) hx hb dL_law_1256 (by decide) ?_
  refine lv_iadd hx hb dL_law_1257 ?_
  refine va_sld hx hb hS.2.1 hS.2.2.1 (Nat.not_le.mpr hS.2.2.1) hM.2.2.2 (hi 1 (by decide)) dL_law_1258 ?_
  refine lv_aload_n hx hb dL_law_1259 rfl (lv_at hl 0 rfl) ?_
  refine lv_iload_n hx hb dL_law_1260 rfl (lv_at hl 3 rfl) ?_
  refine lv_iconst (v := 2) hx hb dL_law_1261 (by decide) ?_
  refine lv_iadd hx hb dL_law_1262 ?_
  refine va_sld hx hb hS.2.1 hS.2.2.1 (Nat.not_le.mpr hS.2.2.1) hM.2.2.2 (hi 2 (by decide)) dL_law_1263 ?_
  refine lv_aload_n hx hb dL_law_1264 rfl (lv_at hl 0 rfl) ?_
  refine lv_iload_n hx hb dL_law_1265 rfl (lv_at hl 3 rfl) ?_
  refine lv_iconst (v := 3) hx hb dL_law_1266 (by decide) ?_
  refine lv_iadd hx hb dL_law_1267 ?_
  refine va_sld hx hb hS.2.1 hS.2.2.1 (Nat.not_le.mpr hS.2.2.1) hM.2.2.2 (hi 3 (by decide)) dL_law_1268 ?_
  refine lv_aload_n hx hb dL_law_1269 rfl (lv_at hl 0 rfl) ?_
  refine lv_iload_n hx hb dL_law_1270 rfl (lv_at hl 3 rfl) ?_
  refine lv_iconst (v := 4) hx hb dL_law_1271 (by decide) ?_
  refine lv_iadd hx hb dL_law_1272 ?_
  refine va_sld hx hb hS.2.1 hS.2.2.1 (Nat.not_le.mpr hS.2.2.1) hM.2.2.2 (hi 4 (by decide)) dL_law_1273 ?_
  refine l_mR (v := .int r) (As := [.int (xs (i0 + (1 : Int32)).toNatClampNeg), .int (xs (i0 + (2 : Int32)).toNatClampNeg), .int (xs (i0 + (3 : Int32)).toNatClampNeg), .int (xs (i0 + (4 : Int32)).toNatClampNeg)]) (rest := [.int r]) X hM (metX3_over l D oM qM (dA 0) (dA 1) N M (xs (i0 + (1 : Int32)).toNatClampNeg) (xs (i0 + (2 : Int32)).toNatClampNeg) (xs (i0 + (3 : Int32)).toNatClampNeg) (xs (i0 + (4 : Int32)).toNatClampNeg) _ hm) (cwV 4 X.2.2.2.2 gL_135 rfl rfl rfl hX3_over ⟨(Nat.le_of_ble_eq_true rfl), (Nat.le_of_ble_eq_true rfl)⟩) rfl hl.1 rfl (Nat.le_of_ble_eq_true rfl) ⟨Nat.le_trans (Nat.le_add_right _ _) hu, Nat.le_trans (Nat.le_add_right _ _) hw⟩ dL_law_1274 ?_
  refine lv_icmp_eq (tgt := 1639) hx hb dL_law_1277 rfl (fun _ => ?_) (fun cnd => absurd rfl cnd)
  exact W.widen (Nat.le_add_right _ _) (Nat.le_add_right _ _) <| kk S M H hI hM

theorem cL_looked (hS : LWS K l p m c s args b L xs) (hok : OB_looked N INV) (hI : INV S M) (hM : LH D dA o q oM qM S M s H) (hi : ∀ j : Nat, j < 6 → vp_in (i0 + Int32.ofNat j) L) (hl : lv_has ls 4 [(0, .ref b), (1, .ref o), (2, .ref oM), (3, .int i0)]) (hu : u + 9000 ≤ 603072) (hw : w + 110000 ≤ 7262314) (kk : ∀ (S1 : sX) (M1 : sM) (H1 : Heap), INV S1 M1 → LH D dA o q oM qM S1 M1 s H1 → W p l e room_1 s m args below meth c H1 [] (u + 9000) (w + 110000) Q (F0 m 1639 ls [])) : W p l e room_1 s m args below meth c H [] u w Q (F0 m 1282 ls []) := by
  have X := hS.1
  have hx := X.1
  have hb := X.2.1
  unfold LH at hM kk
  unfold OB_looked at hok
  refine lv_aload_n hx hb dL_law_1282 rfl (lv_at hl 1 rfl) ?_
  refine lv_aload_n hx hb dL_law_1283 rfl (lv_at hl 0 rfl) ?_
  refine lv_iload_n hx hb dL_law_1284 rfl (lv_at hl 3 rfl) ?_
  refine lv_iconst (v := 1) hx hb dL_law_1285 (by decide) ?_
  refine lv_iadd hx hb dL_law_1286 ?_
  refine va_sld hx hb hS.2.1 hS.2.2.1 (Nat.not_le.mpr hS.2.2.1) hM.2.2.2 (hi 1 (by decide)) dL_law_1287 ?_
  refine lv_aload_n hx hb dL_law_1288 rfl (lv_at hl 0 rfl) ?_
  refine lv_iload_n hx hb dL_law_1289 rfl (lv_at hl 3 rfl) ?_
  refine lv_iconst (v := 2) hx hb dL_law_1290 (by decide) ?_
  refine lv_iadd hx hb dL_law_1291 ?_
  refine va_sld hx hb hS.2.1 hS.2.2.1 (Nat.not_le.mpr hS.2.2.1) hM.2.2.2 (hi 2 (by decide)) dL_law_1292 ?_
  refine lv_aload_n hx hb dL_law_1293 rfl (lv_at hl 0 rfl) ?_
  refine lv_iload_n hx hb dL_law_1294 rfl (lv_at hl 3 rfl) ?_
  refine lv_iconst (v := 3) hx hb dL_law_1295 (by decide) ?_
  refine lv_iadd hx hb dL_law_1296 ?_
  refine va_sld hx hb hS.2.1 hS.2.2.1 (Nat.not_le.mpr hS.2.2.1) hM.2.2.2 (hi 3 (by decide)) dL_law_1297 ?_
  refine lv_aload_n hx hb dL_law_1298 rfl (lv_at hl 0 rfl) ?_
  refine lv_iload_n hx hb dL_law_1299 rfl (lv_at hl 3 rfl) ?_
  refine lv_iconst (v := 4) hx hb dL_law_1300 (by decide) ?_
  refine lv_iadd hx hb dL_law_1301 ?_
  refine va_sld hx hb hS.2.1 hS.2.2.1 (Nat.not_le.mpr hS.2.2.1) hM.2.2.2 (hi 4 (by decide)) dL_law_1302 ?_
  obtain ⟨r, S1, M1, hf, hm, hI⟩ := hok S M (xs (i0 + (1 : Int32)).toNatClampNeg) (xs (i0 + (2 : Int32)).toNatClampNeg) (xs (i0 + (3 : Int32)).toNatClampNeg) (xs (i0 + (4 : Int32)).toNatClampNeg) hI
  refine l_xW (v := .int r) (As := [.int (xs (i0 + (1 : Int32)).toNatClampNeg), .int (xs (i0 + (2 : Int32)).toNatClampNeg), .int (xs (i0 + (3 : Int32)).toNatClampNeg), .int (xs (i0 + (4 : Int32)).toNatClampNeg)]) (rest := []) X hM (fun _ => Iff.rfl) (metX0_looked l D dA o q N S (xs (i0 + (1 : Int32)).toNatClampNeg) (xs (i0 + (2 : Int32)).toNatClampNeg) (xs (i0 + (3 : Int32)).toNatClampNeg) (xs (i0 + (4 : Int32)).toNatClampNeg) _ _ hf) (cwV 4 X.2.2.2.2 gL_136 rfl rfl rfl hX0_looked ⟨(Nat.le_of_ble_eq_true rfl), (Nat.le_of_ble_eq_true rfl)⟩) rfl hl.1 rfl (Nat.le_of_ble_eq_true rfl) ⟨Nat.le_trans (Nat.le_add_right _ _) hu, Nat.le_trans (Nat.le_add_right _ _) hw⟩ dL_law_1303 (fun H hM => ?_)
  refine lv_aload_n hx hb dL_law_1306 rfl (lv_at hl 2 rfl) ?_
  refine lv_aload_n hx hb dL_law_1307 rfl (lv_at hl 0 rfl) ?_
  refine lv_iload_n hx hb dL_law_1308 rfl (lv_at hl 3 rfl) ?_
  refine lv_iconst (v := 1) hx hb dL_law_1309 (by decide) ?_
  refine lv_iadd hx hb dL_law_1310 ?_
  refine va_sld hx hb hS.2.1 hS.2.2.1 (Nat.not_le.mpr hS.2.2.1) hM.2.2.2 (hi 1 (by decide)) dL_law_1311 ?_
  refine lv_aload_n hx hb dL_law_1312 rfl (lv_at hl 0 rfl) ?_
  refine lv_iload_n hx hb dL_law_1313 rfl (lv_at hl 3 rfl) ?_
  refine lv_iconst (v := 2) hx hb dL_law_1314 (by decide) ?_
  refine lv_iadd hx hb dL_law_1315 ?_
  refine va_sld hx hb hS.2.1 hS.2.2.1 (Nat.not_le.mpr hS.2.2.1) hM.2.2.2 (hi 2 (by decide)) dL_law_1316 ?_
  refine lv_aload_n hx hb dL_law_1317 rfl (lv_at hl 0 rfl) ?_
  refine lv_iload_n hx hb dL_law_1318 rfl (lv_at hl 3 rfl) ?_
  refine lv_iconst (v := 3) hx hb dL_law_1319 (by decide) ?_
  refine lv_iadd hx hb dL_law_1320 ?_
  refine va_sld hx hb hS.2.1 hS.2.2.1 (Nat.not_le.mpr hS.2.2.1) hM.2.2.2 (hi 3 (by decide)) dL_law_1321 ?_
  refine lv_aload_n hx hb dL_law_1322 rfl (lv_at hl 0 rfl) ?_
  refine lv_iload_n hx hb dL_law_1323 rfl (lv_at hl 3 rfl) ?_
  refine lv_iconst (v := 4) hx hb dL_law_1324 (by decide) ?_
  refine lv_iadd hx hb dL_law_1325 ?_
  refine va_sld hx hb hS.2.1 hS.2.2.1 (Nat.not_le.mpr hS.2.2.1) hM.2.2.2 (hi 4 (by decide)) dL_law_1326 ?_
  refine l_mW (v := .int r) (As := [.int (xs (i0 + (1 : Int32)).toNatClampNeg), .int (xs (i0 + (2 : Int32)).toNatClampNeg), .int (xs (i0 + (3 : Int32)).toNatClampNeg), .int (xs (i0 + (4 : Int32)).toNatClampNeg)]) (rest := [.int r]) X hM (fun _ => Iff.rfl) (metX3_looked l D oM qM (dA 0) (dA 1) (l_mG hM) N M (xs (i0 + (1 : Int32)).toNatClampNeg) (xs (i0 + (2 : Int32)).toNatClampNeg) (xs (i0 + (3 : Int32)).toNatClampNeg) (xs (i0 + (4 : Int32)).toNatClampNeg) _ _ hm) (cwV 4 X.2.2.2.2 gL_139 rfl rfl rfl hX3_looked ⟨(Nat.le_of_ble_eq_true rfl), (Nat.le_of_ble_eq_true rfl)⟩) rfl hl.1 rfl (Nat.le_of_ble_eq_true rfl) ⟨Nat.le_trans (Nat.le_add_right _ _) hu, Nat.le_trans (Nat.le_add_right _ _) hw⟩ dL_law_1327 (fun H hM => ?_)
  refine lv_icmp_eq (tgt := 1639) hx hb dL_law_1330 rfl (fun _ => ?_) (fun cnd => absurd rfl cnd)
  exact W.widen (Nat.le_add_right _ _) (Nat.le_add_right _ _) <| kk S1 M1 H hI hM

theorem cL_seldom (hS : LWS K l p m c s args b L xs) (hok : OB_seldom N INV) (hI : INV S M) (hM : LH D dA o q oM qM S M s H) (hi : ∀ j : Nat, j < 6 → vp_in (i0 + Int32.ofNat j) L) (hl : lv_has ls 4 [(0, .ref b), (1, .ref o), (2, .ref oM), (3, .int i0)]) (hu : u + 9000 ≤ 603072) (hw : w + 110000 ≤ 7262314) (kk : ∀ (S1 : sX) (M1 : sM) (H1 : Heap), INV S1 M1 → LH D dA o q oM qM S1 M1 s H1 → W p l e room_1 s m args below meth c H1 [] (u + 9000) (w + 110000) Q (F0 m 1639 ls [])) : W p l e room_1 s m args below meth c H [] u w Q (F0 m 1335 ls []) := by
  have X := hS.1
  have hx := X.1
  have hb := X.2.1
  unfold LH at hM kk
  unfold OB_seldom at hok
  refine lv_aload_n hx hb dL_law_1335 rfl (lv_at hl 1 rfl) ?_
  refine lv_aload_n hx hb dL_law_1336 rfl (lv_at hl 0 rfl) ?_
  refine lv_iload_n hx hb dL_law_1337 rfl (lv_at hl 3 rfl) ?_
  refine lv_iconst (v := 1) hx hb dL_law_1338 (by decide) ?_
  refine lv_iadd hx hb dL_law_1339 ?_
  refine va_sld hx hb hS.2.1 hS.2.2.1 (Nat.not_le.mpr hS.2.2.1) hM.2.2.2 (hi 1 (by decide)) dL_law_1340 ?_
  refine lv_aload_n hx hb dL_law_1341 rfl (lv_at hl 0 rfl) ?_
  refine lv_iload_n hx hb dL_law_1342 rfl (lv_at hl 3 rfl) ?_
  refine lv_iconst (v := 2) hx hb dL_law_1343 (by decide) ?_
  refine lv_iadd hx hb dL_law_1344 ?_
  refine va_sld hx hb hS.2.1 hS.2.2.1 (Nat.not_le.mpr hS.2.2.1) hM.2.2.2 (hi 2 (by decide)) dL_law_1345 ?_
  obtain ⟨r, S1, M1, hf, hm, hI⟩ := hok S M (xs (i0 + (1 : Int32)).toNatClampNeg) (xs (i0 + (2 : Int32)).toNatClampNeg) hI
  refine l_xW (v := .int r) (As := [.int (xs (i0 + (1 : Int32)).toNatClampNeg), .int (xs (i0 + (2 : Int32)).toNatClampNeg)]) (rest := []) X hM (fun _ => Iff.rfl) (metX0_seldom l D dA o q N S (xs (i0 + (1 : Int32)).toNatClampNeg) (xs (i0 + (2 : Int32)).toNatClampNeg) _ _ hf) (cwV 2 X.2.2.2.2 gL_140 rfl rfl rfl hX0_seldom ⟨(Nat.le_of_ble_eq_true rfl), (Nat.le_of_ble_eq_true rfl)⟩) rfl hl.1 rfl (Nat.le_of_ble_eq_true rfl) ⟨Nat.le_trans (Nat.le_add_right _ _) hu, Nat.le_trans (Nat.le_add_right _ _) hw⟩ dL_law_1346 (fun H hM => ?_)
  refine lv_aload_n hx hb dL_law_1349 rfl (lv_at hl 2 rfl) ?_
  refine lv_aload_n hx hb dL_law_1350 rfl (lv_at hl 0 rfl) ?_
  refine lv_iload_n hx hb dL_law_1351 rfl (lv_at hl 3 rfl) ?_
  refine lv_iconst (v := 1) hx hb dL_law_1352 (by decide) ?_
  refine lv_iadd hx hb dL_law_1353 ?_
  refine va_sld hx hb hS.2.1 hS.2.2.1 (Nat.not_le.mpr hS.2.2.1) hM.2.2.2 (hi 1 (by decide)) dL_law_1354 ?_
  refine lv_aload_n hx hb dL_law_1355 rfl (lv_at hl 0 rfl) ?_
  refine lv_iload_n hx hb dL_law_1356 rfl (lv_at hl 3 rfl) ?_
  refine lv_iconst (v := 2) hx hb dL_law_1357 (by decide) ?_
  refine lv_iadd hx hb dL_law_1358 ?_
  refine va_sld hx hb hS.2.1 hS.2.2.1 (Nat.not_le.mpr hS.2.2.1) hM.2.2.2 (hi 2 (by decide)) dL_law_1359 ?_
  refine l_mW (v := .int r) (As := [.int (xs (i0 + (1 : Int32)).toNatClampNeg), .int (xs (i0 + (2 : Int32)).toNatClampNeg)]) (rest := [.int r]) X hM (fun _ => Iff.rfl) (metX3_seldom l D oM qM (dA 0) (dA 1) (l_mG hM) N M (xs (i0 + (1 : Int32)).toNatClampNeg) (xs (i0 + (2 : Int32)).toNatClampNeg) _ _ hm) (cwV 2 X.2.2.2.2 gL_143 rfl rfl rfl hX3_seldom ⟨(Nat.le_of_ble_eq_true rfl), (Nat.le_of_ble_eq_true rfl)⟩) rfl hl.1 rfl (Nat.le_of_ble_eq_true rfl) ⟨Nat.le_trans (Nat.le_add_right _ _) hu, Nat.le_trans (Nat.le_add_right _ _) hw⟩ dL_law_1360 (fun H hM => ?_)
  refine lv_icmp_eq (tgt := 1639) hx hb dL_law_1363 rfl (fun _ => ?_) (fun cnd => absurd rfl cnd)
  exact W.widen (Nat.le_add_right _ _) (Nat.le_add_right _ _) <| kk S1 M1 H hI hM

theorem cL_run (hS : LWS K l p m c s args b L xs) (hok : OB_run N INV) (hI : INV S M) (hM : LH D dA o q oM qM S M s H) (hi : ∀ j : Nat, j < 6 → vp_in (i0 + Int32.ofNat j) L) (hl : lv_has ls 4 [(0, .ref b), (1, .ref o), (2, .ref oM), (3, .int i0)]) (hu : u + 9000 ≤ 603072) (hw : w + 110000 ≤ 7262314) (kk : ∀ (S1 : sX) (M1 : sM) (H1 : Heap), INV S1 M1 → LH D dA o q oM qM S1 M1 s H1 → W p l e room_1 s m args below meth c H1 [] (u + 9000) (w + 110000) Q (F0 m 1639 ls [])) : W p l e room_1 s m args below meth c H [] u w Q (F0 m 1368 ls []) := by
  have X := hS.1
  have hx := X.1
  have hb := X.2.1
  unfold LH at hM kk
  unfold OB_run at hok
  refine lv_aload_n hx hb dL_law_1368 rfl (lv_at hl 1 rfl) ?_
  refine lv_aload_n hx hb dL_law_1369 rfl (lv_at hl 0 rfl) ?_
  refine lv_iload_n hx hb dL_law_1370 rfl (lv_at hl 3 rfl) ?_
  refine lv_iconst (v := 1) hx hb dL_law_1371 (by decide) ?_
  refine lv_iadd hx hb dL_law_1372 ?_
  refine va_sld hx hb hS.2.1 hS.2.2.1 (Nat.not_le.mpr hS.2.2.1) hM.2.2.2 (hi 1 (by decide)) dL_law_1373 ?_
  refine lv_aload_n hx hb dL_law_1374 rfl (lv_at hl 0 rfl) ?_
  refine lv_iload_n hx hb dL_law_1375 rfl (lv_at hl 3 rfl) ?_
  refine lv_iconst (v := 2) hx hb dL_law_1376 (by decide) ?_
  refine lv_iadd hx hb dL_law_1377 ?_
  refine va_sld hx hb hS.2.1 hS.2.2.1 (Nat.not_le.mpr hS.2.2.1) hM.2.2.2 (hi 2 (by decide)) dL_law_1378 ?_
  refine lv_aload_n hx hb dL_law_1379 rfl (lv_at hl 0 rfl) ?_
  refine lv_iload_n hx hb dL_law_1380 rfl (lv_at hl 3 rfl) ?_
  refine lv_iconst (v := 3) hx hb dL_law_1381 (by decide) ?_
  refine lv_iadd hx hb dL_law_1382 ?_
  refine va_sld hx hb hS.2.1 hS.2.2.1 (Nat.not_le.mpr hS.2.2.1) hM.2.2.2 (hi 3 (by decide)) dL_law_1383 ?_
  obtain ⟨r, S1, M1, hf, hm, hI⟩ := hok S M (xs (i0 + (1 : Int32)).toNatClampNeg) (xs (i0 + (2 : Int32)).toNatClampNeg) (xs (i0 + (3 : Int32)).toNatClampNeg) hI
  refine l_xW (v := .int r) (As := [.int (xs (i0 + (1 : Int32)).toNatClampNeg), .int (xs (i0 + (2 : Int32)).toNatClampNeg), .int (xs (i0 + (3 : Int32)).toNatClampNeg)]) (rest := []) X hM (fun _ => Iff.rfl) (metX0_run l D dA o q S (xs (i0 + (1 : Int32)).toNatClampNeg) (xs (i0 + (2 : Int32)).toNatClampNeg) (xs (i0 + (3 : Int32)).toNatClampNeg) _ _ hf) (cwV 3 X.2.2.2.2 gL_144 rfl rfl rfl hX0_run ⟨(Nat.le_of_ble_eq_true rfl), (Nat.le_of_ble_eq_true rfl)⟩) rfl hl.1 rfl (Nat.le_of_ble_eq_true rfl) ⟨Nat.le_trans (Nat.le_add_right _ _) hu, Nat.le_trans (Nat.le_add_right _ _) hw⟩ dL_law_1384 (fun H hM => ?_)
  refine lv_aload_n hx hb dL_law_1387 rfl (lv_at hl 2 rfl) ?_
  refine lv_aload_n hx hb dL_law_1388 rfl (lv_at hl 0 rfl) ?_
  refine lv_iload_n hx hb dL_law_1389 rfl (lv_at hl 3 rfl) ?_
  refine lv_iconst (v := 1) hx hb dL_law_1390 (by decide) ?_
  refine lv_iadd hx hb dL_law_1391 ?_
  refine va_sld hx hb hS.2.1 hS.2.2.1 (Nat.not_le.mpr hS.2.2.1) hM.2.2.2 (hi 1 (by decide)) dL_law_1392 ?_
  refine lv_aload_n hx hb dL_law_1393 rfl (lv_at hl 0 rfl) ?_
  refine lv_iload_n hx hb dL_law_1394 rfl (lv_at hl 3 rfl) ?_
  refine lv_iconst (v := 2) hx hb dL_law_1395 (by decide) ?_
  refine lv_iadd hx hb dL_law_1396 ?_
  refine va_sld hx hb hS.2.1 hS.2.2.1 (Nat.not_le.mpr hS.2.2.1) hM.2.2.2 (hi 2 (by decide)) dL_law_1397 ?_
  refine lv_aload_n hx hb dL_law_1398 rfl (lv_at hl 0 rfl) ?_
  refine lv_iload_n hx hb dL_law_1399 rfl (lv_at hl 3 rfl) ?_
  refine lv_iconst (v := 3) hx hb dL_law_1400 (by decide) ?_
  refine lv_iadd hx hb dL_law_1401 ?_
  refine va_sld hx hb hS.2.1 hS.2.2.1 (Nat.not_le.mpr hS.2.2.1) hM.2.2.2 (hi 3 (by decide)) dL_law_1402 ?_
  refine l_mW (v := .int r) (As := [.int (xs (i0 + (1 : Int32)).toNatClampNeg), .int (xs (i0 + (2 : Int32)).toNatClampNeg), .int (xs (i0 + (3 : Int32)).toNatClampNeg)]) (rest := [.int r]) X hM (fun _ => Iff.rfl) (metX3_run l D oM qM (dA 0) (dA 1) (l_mG hM) M (xs (i0 + (1 : Int32)).toNatClampNeg) (xs (i0 + (2 : Int32)).toNatClampNeg) (xs (i0 + (3 : Int32)).toNatClampNeg) _ _ hm) (cwV 3 X.2.2.2.2 gL_147 rfl rfl rfl hX3_run ⟨(Nat.le_of_ble_eq_true rfl), (Nat.le_of_ble_eq_true rfl)⟩) rfl hl.1 rfl (Nat.le_of_ble_eq_true rfl) ⟨Nat.le_trans (Nat.le_add_right _ _) hu, Nat.le_trans (Nat.le_add_right _ _) hw⟩ dL_law_1403 (fun H hM => ?_)
  refine lv_icmp_eq (tgt := 1639) hx hb dL_law_1406 rfl (fun _ => ?_) (fun cnd => absurd rfl cnd)
  exact W.widen (Nat.le_add_right _ _) (Nat.le_add_right _ _) <| kk S1 M1 H hI hM

theorem cL_forget (hS : LWS K l p m c s args b L xs) (hok : OB_forget N INV) (hI : INV S M) (hM : LH D dA o q oM qM S M s H) (hi : ∀ j : Nat, j < 6 → vp_in (i0 + Int32.ofNat j) L) (hl : lv_has ls 4 [(0, .ref b), (1, .ref o), (2, .ref oM), (3, .int i0)]) (hu : u + 9000 ≤ 603072) (hw : w + 110000 ≤ 7262314) (kk : ∀ (S1 : sX) (M1 : sM) (H1 : Heap), INV S1 M1 → LH D dA o q oM qM S1 M1 s H1 → W p l e room_1 s m args below meth c H1 [] (u + 9000) (w + 110000) Q (F0 m 1639 ls [])) : W p l e room_1 s m args below meth c H [] u w Q (F0 m 1411 ls []) := by
  have X := hS.1
  have hx := X.1
  have hb := X.2.1
  unfold LH at hM kk
  unfold OB_forget at hok
  refine lv_aload_n hx hb dL_law_1411 rfl (lv_at hl 1 rfl) ?_
  obtain ⟨r, S1, M1, hf, hm, hI⟩ := hok S M hI
  refine l_xW (v := .int r) (As := []) (rest := []) X hM (fun _ => Iff.rfl) (metX0_forget l D dA o q S  _ _ hf) (cwV 0 X.2.2.2.2 gL_148 rfl rfl rfl hX0_forget ⟨(Nat.le_of_ble_eq_true rfl), (Nat.le_of_ble_eq_true rfl)⟩) rfl hl.1 rfl (Nat.le_of_ble_eq_true rfl) ⟨Nat.le_trans (Nat.le_add_right _ _) hu, Nat.le_trans (Nat.le_add_right _ _) hw⟩ dL_law_1412 (fun H hM => ?_)
  refine lv_aload_n hx hb dL_law_1415 rfl (lv_at hl 2 rfl) ?_
  refine l_mW (v := .int r) (As := []) (rest := [.int r]) X hM (fun _ => Iff.rfl) (metX3_forget l D oM qM (dA 0) (dA 1) (l_mG hM) M  _ _ hm) (cwV 0 X.2.2.2.2 gL_151 rfl rfl rfl hX3_forget ⟨(Nat.le_of_ble_eq_true rfl), (Nat.le_of_ble_eq_true rfl)⟩) rfl hl.1 rfl (Nat.le_of_ble_eq_true rfl) ⟨Nat.le_trans (Nat.le_add_right _ _) hu, Nat.le_trans (Nat.le_add_right _ _) hw⟩ dL_law_1416 (fun H hM => ?_)
  refine lv_icmp_eq (tgt := 1639) hx hb dL_law_1419 rfl (fun _ => ?_) (fun cnd => absurd rfl cnd)
  exact W.widen (Nat.le_add_right _ _) (Nat.le_add_right _ _) <| kk S1 M1 H hI hM

theorem cL_wired (hS : LWS K l p m c s args b L xs) (hok : OB_wired N INV) (hI : INV S M) (hM : LH D dA o q oM qM S M s H) (hi : ∀ j : Nat, j < 6 → vp_in (i0 + Int32.ofNat j) L) (hl : lv_has ls 4 [(0, .ref b), (1, .ref o), (2, .ref oM), (3, .int i0)]) (hu : u + 9000 ≤ 603072) (hw : w + 110000 ≤ 7262314) (kk : ∀ (S1 : sX) (M1 : sM) (H1 : Heap), INV S1 M1 → LH D dA o q oM qM S1 M1 s H1 → W p l e room_1 s m args below meth c H1 [] (u + 9000) (w + 110000) Q (F0 m 1639 ls [])) : W p l e room_1 s m args below meth c H [] u w Q (F0 m 1424 ls []) := by
  have X := hS.1
  have hx := X.1
  have hb := X.2.1
  unfold LH at hM kk
  unfold OB_wired at hok
  refine lv_aload_n hx hb dL_law_1424 rfl (lv_at hl 1 rfl) ?_
  refine lv_aload_n hx hb dL_law_1425 rfl (lv_at hl 0 rfl) ?_
  refine lv_iload_n hx hb dL_law_1426 rfl (lv_at hl 3 rfl) ?_
  refine lv_iconst (v := 1) hx hb dL_law_1427 (by decide) ?_
  refine lv_iadd hx hb dL_law_1428 ?_
  refine va_sld hx hb hS.2.1 hS.2.2.1 (Nat.not_le.mpr hS.2.2.1) hM.2.2.2 (hi 1 (by decide)) dL_law_1429 ?_
  refine lv_aload_n hx hb dL_law_1430 rfl (lv_at hl 0 rfl) ?_
  refine lv_iload_n hx hb dL_law_1431 rfl (lv_at hl 3 rfl) ?_
  refine lv_iconst (v := 2) hx hb dL_law_1432 (by decide) ?_
  refine lv_iadd hx hb dL_law_1433 ?_
  refine va_sld hx hb hS.2.1 hS.2.2.1 (Nat.not_le.mpr hS.2.2.1) hM.2.2.2 (hi 2 (by decide)) dL_law_1434 ?_
  refine lv_aload_n hx hb dL_law_1435 rfl (lv_at hl 0 rfl) ?_
  refine lv_iload_n hx hb dL_law_1436 rfl (lv_at hl 3 rfl) ?_
  refine lv_iconst (v := 3) hx hb dL_law_1437 (by decide) ?_
  refine lv_iadd hx hb dL_law_1438 ?_
  refine va_sld hx hb hS.2.1 hS.2.2.1 (Nat.not_le.mpr hS.2.2.1) hM.2.2.2 (hi 3 (by decide)) dL_law_1439 ?_
  obtain ⟨r, hf, hm⟩ := hok S M (xs (i0 + (1 : Int32)).toNatClampNeg) (xs (i0 + (2 : Int32)).toNatClampNeg) (xs (i0 + (3 : Int32)).toNatClampNeg) hI
  refine l_xR (v := .int r) (As := [.int (xs (i0 + (1 : Int32)).toNatClampNeg), .int (xs (i0 + (2 : Int32)).toNatClampNeg), .int (xs (i0 + (3 : Int32)).toNatClampNeg)]) (rest := []) X hM (metX0_wired l D dA o q N S (xs (i0 + (1 : Int32)).toNatClampNeg) (xs (i0 + (2 : Int32)).toNatClampNeg) (xs (i0 + (3 : Int32)).toNatClampNeg) _ hf) (cwV 3 X.2.2.2.2 gL_152 rfl rfl rfl hX0_wired ⟨(Nat.le_of_ble_eq_true rfl), (Nat.le_of_ble_eq_true rfl)⟩) rfl hl.1 rfl (Nat.le_of_ble_eq_true rfl) ⟨Nat.le_trans (Nat.le_add_right _ _) hu, Nat.le_trans (Nat.le_add_right _ _) hw⟩ dL_law_1440 ?_
  refine lv_aload_n hx hb dL_law_1443 rfl (lv_at hl 2 rfl) ?_
  refine lv_aload_n hx hb dL_law_1444 rfl (lv_at hl 0 rfl) ?_
  refine lv_iload_n hx hb dL_law_1445 rfl (lv_at hl 3 rfl) ?_
  refine lv_iconst (v := 1) hx hb dL_law_1446 (by decide) ?_
  refine lv_iadd hx hb dL_law_1447 ?_
  refine va_sld hx hb hS.2.1 hS.2.2.1 (Nat.not_le.mpr hS.2.2.1) hM.2.2.2 (hi 1 (by decide)) dL_law_1448 ?_
  refine lv_aload_n hx hb dL_law_1449 rfl (lv_at hl 0 rfl) ?_
  refine lv_iload_n hx hb dL_law_1450 rfl (lv_at hl 3 rfl) ?_
  refine lv_iconst (v := 2) hx hb dL_law_1451 (by decide) ?_
  refine lv_iadd hx hb dL_law_1452 ?_
  refine va_sld hx hb hS.2.1 hS.2.2.1 (Nat.not_le.mpr hS.2.2.1) hM.2.2.2 (hi 2 (by decide)) dL_law_1453 ?_
  refine lv_aload_n hx hb dL_law_1454 rfl (lv_at hl 0 rfl) ?_
  refine lv_iload_n hx hb dL_law_1455 rfl (lv_at hl 3 rfl) ?_
  refine lv_iconst (v := 3) hx hb dL_law_1456 (by decide) ?_
  refine lv_iadd hx hb dL_law_1457 ?_
  refine va_sld hx hb hS.2.1 hS.2.2.1 (Nat.not_le.mpr hS.2.2.1) hM.2.2.2 (hi 3 (by decide)) dL_law_1458 ?_
  refine l_mR (v := .int r) (As := [.int (xs (i0 + (1 : Int32)).toNatClampNeg), .int (xs (i0 + (2 : Int32)).toNatClampNeg), .int (xs (i0 + (3 : Int32)).toNatClampNeg)]) (rest := [.int r]) X hM (metX3_wired l D oM qM (dA 0) (dA 1) N M (xs (i0 + (1 : Int32)).toNatClampNeg) (xs (i0 + (2 : Int32)).toNatClampNeg) (xs (i0 + (3 : Int32)).toNatClampNeg) _ hm) (cwV 3 X.2.2.2.2 gL_155 rfl rfl rfl hX3_wired ⟨(Nat.le_of_ble_eq_true rfl), (Nat.le_of_ble_eq_true rfl)⟩) rfl hl.1 rfl (Nat.le_of_ble_eq_true rfl) ⟨Nat.le_trans (Nat.le_add_right _ _) hu, Nat.le_trans (Nat.le_add_right _ _) hw⟩ dL_law_1459 ?_
  refine lv_icmp_eq (tgt := 1639) hx hb dL_law_1462 rfl (fun _ => ?_) (fun cnd => absurd rfl cnd)
  exact W.widen (Nat.le_add_right _ _) (Nat.le_add_right _ _) <| kk S M H hI hM

theorem cL_sheet (hS : LWS K l p m c s args b L xs) (hok : OB_sheet N INV) (hI : INV S M) (hM : LH D dA o q oM qM S M s H) (hi : ∀ j : Nat, j < 6 → vp_in (i0 + Int32.ofNat j) L) (hl : lv_has ls 4 [(0, .ref b), (1, .ref o), (2, .ref oM), (3, .int i0)]) (hu : u + 9000 ≤ 603072) (hw : w + 110000 ≤ 7262314) (kk : ∀ (S1 : sX) (M1 : sM) (H1 : Heap), INV S1 M1 → LH D dA o q oM qM S1 M1 s H1 → W p l e room_1 s m args below meth c H1 [] (u + 9000) (w + 110000) Q (F0 m 1639 ls [])) : W p l e room_1 s m args below meth c H [] u w Q (F0 m 1467 ls []) := by
  have X := hS.1
  have hx := X.1
  have hb := X.2.1
  unfold LH at hM kk
  unfold OB_sheet at hok
  refine lv_aload_n hx hb dL_law_1467 rfl (lv_at hl 1 rfl) ?_
  refine lv_aload_n hx hb dL_law_1468 rfl (lv_at hl 0 rfl) ?_
  refine lv_iload_n hx hb dL_law_1469 rfl (lv_at hl 3 rfl) ?_
  refine lv_iconst (v := 1) hx hb dL_law_1470 (by decide) ?_
  refine lv_iadd hx hb dL_law_1471 ?_
  refine va_sld hx hb hS.2.1 hS.2.2.1 (Nat.not_le.mpr hS.2.2.1) hM.2.2.2 (hi 1 (by decide)) dL_law_1472 ?_
  refine lv_aload_n hx hb dL_law_1473 rfl (lv_at hl 0 rfl) ?_
  refine lv_iload_n hx hb dL_law_1474 rfl (lv_at hl 3 rfl) ?_
  refine lv_iconst (v := 2) hx hb dL_law_1475 (by decide) ?_
  refine lv_iadd hx hb dL_law_1476 ?_
  refine va_sld hx hb hS.2.1 hS.2.2.1 (Nat.not_le.mpr hS.2.2.1) hM.2.2.2 (hi 2 (by decide)) dL_law_1477 ?_
  refine lv_aload_n hx hb dL_law_1478 rfl (lv_at hl 0 rfl) ?_
  refine lv_iload_n hx hb dL_law_1479 rfl (lv_at hl 3 rfl) ?_
  refine lv_iconst (v := 3) hx hb dL_law_1480 (by decide) ?_
  refine lv_iadd hx hb dL_law_1481 ?_
  refine va_sld hx hb hS.2.1 hS.2.2.1 (Nat.not_le.mpr hS.2.2.1) hM.2.2.2 (hi 3 (by decide)) dL_law_1482 ?_
  obtain ⟨r, M1, hm, hf⟩ := hok S M (xs (i0 + (1 : Int32)).toNatClampNeg) (xs (i0 + (2 : Int32)).toNatClampNeg) (xs (i0 + (3 : Int32)).toNatClampNeg) hI
  refine l_xY (As := [.int (xs (i0 + (1 : Int32)).toNatClampNeg), .int (xs (i0 + (2 : Int32)).toNatClampNeg), .int (xs (i0 + (3 : Int32)).toNatClampNeg)]) (rest := []) X hM (fun _ => Iff.rfl) (metX0_sheet l D dA K o q hS.2.2.2.2.2.2.2 _ S 9000 110000 (xs (i0 + (1 : Int32)).toNatClampNeg) (xs (i0 + (2 : Int32)).toNatClampNeg) (xs (i0 + (3 : Int32)).toNatClampNeg) hf) (cwH 3 X.2.2.2.2 gL_156 rfl rfl (by decide +kernel) ⟨(Nat.le_of_ble_eq_true rfl), (Nat.le_of_ble_eq_true rfl)⟩) (l_preE hM (fun _ h => h) hS.2.2.2.1 hS.2.2.2.2.1 hS.2.2.2.2.2.1 hS.2.2.2.2.2.2.1) rfl hl.1 rfl (Nat.le_of_ble_eq_true rfl) ⟨hu, hw⟩ dL_law_1483 (fun v S1 H hq hM => ?_)
  obtain ⟨r', rfl, rfl, hI⟩ := hq
  refine W.eq (g2 := F0 m _ _ [.int (r')]) rfl ?_
  refine lv_aload_n hx hb dL_law_1486 rfl (lv_at hl 2 rfl) ?_
  refine lv_aload_n hx hb dL_law_1487 rfl (lv_at hl 0 rfl) ?_
  refine lv_iload_n hx hb dL_law_1488 rfl (lv_at hl 3 rfl) ?_
  refine lv_iconst (v := 1) hx hb dL_law_1489 (by decide) ?_
  refine lv_iadd hx hb dL_law_1490 ?_
  refine va_sld hx hb hS.2.1 hS.2.2.1 (Nat.not_le.mpr hS.2.2.1) hM.2.2.2 (hi 1 (by decide)) dL_law_1491 ?_
  refine lv_aload_n hx hb dL_law_1492 rfl (lv_at hl 0 rfl) ?_
  refine lv_iload_n hx hb dL_law_1493 rfl (lv_at hl 3 rfl) ?_
  refine lv_iconst (v := 2) hx hb dL_law_1494 (by decide) ?_
  refine lv_iadd hx hb dL_law_1495 ?_
  refine va_sld hx hb hS.2.1 hS.2.2.1 (Nat.not_le.mpr hS.2.2.1) hM.2.2.2 (hi 2 (by decide)) dL_law_1496 ?_
  refine lv_aload_n hx hb dL_law_1497 rfl (lv_at hl 0 rfl) ?_
  refine lv_iload_n hx hb dL_law_1498 rfl (lv_at hl 3 rfl) ?_
  refine lv_iconst (v := 3) hx hb dL_law_1499 (by decide) ?_
  refine lv_iadd hx hb dL_law_1500 ?_
  refine va_sld hx hb hS.2.1 hS.2.2.1 (Nat.not_le.mpr hS.2.2.1) hM.2.2.2 (hi 3 (by decide)) dL_law_1501 ?_
  refine l_mW (v := .int r') (As := [.int (xs (i0 + (1 : Int32)).toNatClampNeg), .int (xs (i0 + (2 : Int32)).toNatClampNeg), .int (xs (i0 + (3 : Int32)).toNatClampNeg)]) (rest := [.int (r')]) X hM (fun _ => Iff.rfl) (metX3_sheet l D oM qM (dA 0) (dA 1) (l_mG hM) N M (xs (i0 + (1 : Int32)).toNatClampNeg) (xs (i0 + (2 : Int32)).toNatClampNeg) (xs (i0 + (3 : Int32)).toNatClampNeg) _ _ hm) (cwV 3 X.2.2.2.2 gL_159 rfl rfl rfl hX3_sheet ⟨(Nat.le_of_ble_eq_true rfl), (Nat.le_of_ble_eq_true rfl)⟩) rfl hl.1 rfl (Nat.le_of_ble_eq_true rfl) ⟨hu, hw⟩ dL_law_1502 (fun H hM => ?_)
  refine lv_icmp_eq (tgt := 1639) hx hb dL_law_1505 rfl (fun _ => ?_) (fun cnd => absurd rfl cnd)
  exact kk S1 M1 H hI hM

theorem cL_lay (hS : LWS K l p m c s args b L xs) (hok : OB_lay N INV) (hI : INV S M) (hM : LH D dA o q oM qM S M s H) (hi : ∀ j : Nat, j < 6 → vp_in (i0 + Int32.ofNat j) L) (hl : lv_has ls 4 [(0, .ref b), (1, .ref o), (2, .ref oM), (3, .int i0)]) (hu : u + 9000 ≤ 603072) (hw : w + 110000 ≤ 7262314) (kk : ∀ (S1 : sX) (M1 : sM) (H1 : Heap), INV S1 M1 → LH D dA o q oM qM S1 M1 s H1 → W p l e room_1 s m args below meth c H1 [] (u + 9000) (w + 110000) Q (F0 m 1639 ls [])) : W p l e room_1 s m args below meth c H [] u w Q (F0 m 1510 ls []) := by
  have X := hS.1
  have hx := X.1
  have hb := X.2.1
  unfold LH at hM kk
  unfold OB_lay at hok
  refine lv_aload_n hx hb dL_law_1510 rfl (lv_at hl 1 rfl) ?_
  refine lv_aload_n hx hb dL_law_1511 rfl (lv_at hl 0 rfl) ?_
  refine lv_iload_n hx hb dL_law_1512 rfl (lv_at hl 3 rfl) ?_
  refine lv_iconst (v := 1) hx hb dL_law_1513 (by decide) ?_
  refine lv_iadd hx hb dL_law_1514 ?_
  refine va_sld hx hb hS.2.1 hS.2.2.1 (Nat.not_le.mpr hS.2.2.1) hM.2.2.2 (hi 1 (by decide)) dL_law_1515 ?_
  refine lv_aload_n hx hb dL_law_1516 rfl (lv_at hl 0 rfl) ?_
  refine lv_iload_n hx hb dL_law_1517 rfl (lv_at hl 3 rfl) ?_
  refine lv_iconst (v := 2) hx hb dL_law_1518 (by decide) ?_
  refine lv_iadd hx hb dL_law_1519 ?_
  refine va_sld hx hb hS.2.1 hS.2.2.1 (Nat.not_le.mpr hS.2.2.1) hM.2.2.2 (hi 2 (by decide)) dL_law_1520 ?_
  refine lv_aload_n hx hb dL_law_1521 rfl (lv_at hl 0 rfl) ?_
  refine lv_iload_n hx hb dL_law_1522 rfl (lv_at hl 3 rfl) ?_
  refine lv_iconst (v := 3) hx hb dL_law_1523 (by decide) ?_
  refine lv_iadd hx hb dL_law_1524 ?_
  refine va_sld hx hb hS.2.1 hS.2.2.1 (Nat.not_le.mpr hS.2.2.1) hM.2.2.2 (hi 3 (by decide)) dL_law_1525 ?_
  obtain ⟨r, M1, hm, hf⟩ := hok S M (xs (i0 + (1 : Int32)).toNatClampNeg) (xs (i0 + (2 : Int32)).toNatClampNeg) (xs (i0 + (3 : Int32)).toNatClampNeg) hI
  refine l_xY (As := [.int (xs (i0 + (1 : Int32)).toNatClampNeg), .int (xs (i0 + (2 : Int32)).toNatClampNeg), .int (xs (i0 + (3 : Int32)).toNatClampNeg)]) (rest := []) X hM (fun _ => Iff.rfl) (metX0_lay l D dA K o q hS.2.2.2.2.2.2.2 _ S 9000 110000 (xs (i0 + (1 : Int32)).toNatClampNeg) (xs (i0 + (2 : Int32)).toNatClampNeg) (xs (i0 + (3 : Int32)).toNatClampNeg) hf) (cwH 3 X.2.2.2.2 gL_160 rfl rfl (by decide +kernel) ⟨(Nat.le_of_ble_eq_true rfl), (Nat.le_of_ble_eq_true rfl)⟩) (l_preE hM (fun _ h => h) hS.2.2.2.1 hS.2.2.2.2.1 hS.2.2.2.2.2.1 hS.2.2.2.2.2.2.1) rfl hl.1 rfl (Nat.le_of_ble_eq_true rfl) ⟨hu, hw⟩ dL_law_1526 (fun v S1 H hq hM => ?_)
  obtain ⟨r', rfl, rfl, hI⟩ := hq
  refine W.eq (g2 := F0 m _ _ [.int (r')]) rfl ?_
  refine lv_aload_n hx hb dL_law_1529 rfl (lv_at hl 2 rfl) ?_
  refine lv_aload_n hx hb dL_law_1530 rfl (lv_at hl 0 rfl) ?_
  refine lv_iload_n hx hb dL_law_1531 rfl (lv_at hl 3 rfl) ?_
  refine lv_iconst (v := 1) hx hb dL_law_1532 (by decide) ?_
  refine lv_iadd hx hb dL_law_1533 ?_
  refine va_sld hx hb hS.2.1 hS.2.2.1 (Nat.not_le.mpr hS.2.2.1) hM.2.2.2 (hi 1 (by decide)) dL_law_1534 ?_
  refine lv_aload_n hx hb dL_law_1535 rfl (lv_at hl 0 rfl) ?_
  refine lv_iload_n hx hb dL_law_1536 rfl (lv_at hl 3 rfl) ?_
  refine lv_iconst (v := 2) hx hb dL_law_1537 (by decide) ?_
  refine lv_iadd hx hb dL_law_1538 ?_
  refine va_sld hx hb hS.2.1 hS.2.2.1 (Nat.not_le.mpr hS.2.2.1) hM.2.2.2 (hi 2 (by decide)) dL_law_1539 ?_
  refine lv_aload_n hx hb dL_law_1540 rfl (lv_at hl 0 rfl) ?_
  refine lv_iload_n hx hb dL_law_1541 rfl (lv_at hl 3 rfl) ?_
  refine lv_iconst (v := 3) hx hb dL_law_1542 (by decide) ?_
  refine lv_iadd hx hb dL_law_1543 ?_
  refine va_sld hx hb hS.2.1 hS.2.2.1 (Nat.not_le.mpr hS.2.2.1) hM.2.2.2 (hi 3 (by decide)) dL_law_1544 ?_
  refine l_mW (v := .int r') (As := [.int (xs (i0 + (1 : Int32)).toNatClampNeg), .int (xs (i0 + (2 : Int32)).toNatClampNeg), .int (xs (i0 + (3 : Int32)).toNatClampNeg)]) (rest := [.int (r')]) X hM (fun _ => Iff.rfl) (metX3_lay l D oM qM (dA 0) (dA 1) (l_mG hM) M (xs (i0 + (1 : Int32)).toNatClampNeg) (xs (i0 + (2 : Int32)).toNatClampNeg) (xs (i0 + (3 : Int32)).toNatClampNeg) _ _ hm) (cwV 3 X.2.2.2.2 gL_163 rfl rfl rfl hX3_lay ⟨(Nat.le_of_ble_eq_true rfl), (Nat.le_of_ble_eq_true rfl)⟩) rfl hl.1 rfl (Nat.le_of_ble_eq_true rfl) ⟨hu, hw⟩ dL_law_1545 (fun H hM => ?_)
  refine lv_icmp_eq (tgt := 1639) hx hb dL_law_1548 rfl (fun _ => ?_) (fun cnd => absurd rfl cnd)
  exact kk S1 M1 H hI hM

theorem cL_said (hS : LWS K l p m c s args b L xs) (hok : OB_said N INV) (hI : INV S M) (hM : LH D dA o q oM qM S M s H) (hi : ∀ j : Nat, j < 6 → vp_in (i0 + Int32.ofNat j) L) (hl : lv_has ls 4 [(0, .ref b), (1, .ref o), (2, .ref oM), (3, .int i0)]) (hu : u + 9000 ≤ 603072) (hw : w + 110000 ≤ 7262314) (kk : ∀ (S1 : sX) (M1 : sM) (H1 : Heap), INV S1 M1 → LH D dA o q oM qM S1 M1 s H1 → W p l e room_1 s m args below meth c H1 [] (u + 9000) (w + 110000) Q (F0 m 1639 ls [])) : W p l e room_1 s m args below meth c H [] u w Q (F0 m 1553 ls []) := by
  have X := hS.1
  have hx := X.1
  have hb := X.2.1
  unfold LH at hM kk
  unfold OB_said at hok
  refine lv_aload_n hx hb dL_law_1553 rfl (lv_at hl 1 rfl) ?_
  refine lv_aload_n hx hb dL_law_1554 rfl (lv_at hl 0 rfl) ?_
  refine lv_iload_n hx hb dL_law_1555 rfl (lv_at hl 3 rfl) ?_
  refine lv_iconst (v := 1) hx hb dL_law_1556 (by decide) ?_
  refine lv_iadd hx hb dL_law_1557 ?_
  refine va_sld hx hb hS.2.1 hS.2.2.1 (Nat.not_le.mpr hS.2.2.1) hM.2.2.2 (hi 1 (by decide)) dL_law_1558 ?_
  refine lv_aload_n hx hb dL_law_1559 rfl (lv_at hl 0 rfl) ?_
  refine lv_iload_n hx hb dL_law_1560 rfl (lv_at hl 3 rfl) ?_
  refine lv_iconst (v := 2) hx hb dL_law_1561 (by decide) ?_
  refine lv_iadd hx hb dL_law_1562 ?_
  refine va_sld hx hb hS.2.1 hS.2.2.1 (Nat.not_le.mpr hS.2.2.1) hM.2.2.2 (hi 2 (by decide)) dL_law_1563 ?_
  refine lv_aload_n hx hb dL_law_1564 rfl (lv_at hl 0 rfl) ?_
  refine lv_iload_n hx hb dL_law_1565 rfl (lv_at hl 3 rfl) ?_
  refine lv_iconst (v := 3) hx hb dL_law_1566 (by decide) ?_
  refine lv_iadd hx hb dL_law_1567 ?_
  refine va_sld hx hb hS.2.1 hS.2.2.1 (Nat.not_le.mpr hS.2.2.1) hM.2.2.2 (hi 3 (by decide)) dL_law_1568 ?_
  refine lv_aload_n hx hb dL_law_1569 rfl (lv_at hl 0 rfl) ?_
  refine lv_iload_n hx hb dL_law_1570 rfl (lv_at hl 3 rfl) ?_
  refine lv_iconst (v := 4) hx hb dL_law_1571 (by decide) ?_
  refine lv_iadd hx hb dL_law_1572 ?_
  refine va_sld hx hb hS.2.1 hS.2.2.1 (Nat.not_le.mpr hS.2.2.1) hM.2.2.2 (hi 4 (by decide)) dL_law_1573 ?_
  refine lv_aload_n hx hb dL_law_1574 rfl (lv_at hl 0 rfl) ?_
  refine lv_iload_n hx hb dL_law_1575 rfl (lv_at hl 3 rfl) ?_
  refine lv_iconst (v := 5) hx hb dL_law_1576 (by decide) ?_
  refine lv_iadd hx hb dL_law_1577 ?_
  refine va_sld hx hb hS.2.1 hS.2.2.1 (Nat.not_le.mpr hS.2.2.1) hM.2.2.2 (hi 5 (by decide)) dL_law_1578 ?_
  obtain ⟨r, hm, hf⟩ := hok S M (xs (i0 + (1 : Int32)).toNatClampNeg) (xs (i0 + (2 : Int32)).toNatClampNeg) (xs (i0 + (3 : Int32)).toNatClampNeg) (xs (i0 + (4 : Int32)).toNatClampNeg) (xs (i0 + (5 : Int32)).toNatClampNeg) hI
  refine l_xY (As := [.int (xs (i0 + (1 : Int32)).toNatClampNeg), .int (xs (i0 + (2 : Int32)).toNatClampNeg), .int (xs (i0 + (3 : Int32)).toNatClampNeg), .int (xs (i0 + (4 : Int32)).toNatClampNeg), .int (xs (i0 + (5 : Int32)).toNatClampNeg)]) (rest := []) X hM (fun _ => Iff.rfl) (metX0_said l D dA K o q hS.2.2.2.2.2.2.2 N _ S 9000 110000 (xs (i0 + (1 : Int32)).toNatClampNeg) (xs (i0 + (2 : Int32)).toNatClampNeg) (xs (i0 + (3 : Int32)).toNatClampNeg) (xs (i0 + (4 : Int32)).toNatClampNeg) (xs (i0 + (5 : Int32)).toNatClampNeg) hf) (cwH 5 X.2.2.2.2 gL_164 rfl rfl (by decide +kernel) ⟨(Nat.le_of_ble_eq_true rfl), (Nat.le_of_ble_eq_true rfl)⟩) (l_preE hM (fun _ h => h) hS.2.2.2.1 hS.2.2.2.2.1 hS.2.2.2.2.2.1 hS.2.2.2.2.2.2.1) rfl hl.1 rfl (Nat.le_of_ble_eq_true rfl) ⟨hu, hw⟩ dL_law_1579 (fun v S1 H hq hM => ?_)
  obtain ⟨r', rfl, rfl, hI⟩ := hq
  refine W.eq (g2 := F0 m _ _ [.int (r')]) rfl ?_
  refine lv_aload_n hx hb dL_law_1582 rfl (lv_at hl 2 rfl) ?_
  refine lv_aload_n hx hb dL_law_1583 rfl (lv_at hl 0 rfl) ?_
  refine lv_iload_n hx hb dL_law_1584 rfl (lv_at hl 3 rfl) ?_
  refine lv_iconst (v := 1) hx hb dL_law_1585 (by decide) ?_
  refine lv_iadd hx hb dL_law_1586 ?_
  refine va_sld hx hb hS.2.1 hS.2.2.1 (Nat.not_le.mpr hS.2.2.1) hM.2.2.2 (hi 1 (by decide)) dL_law_1587 ?_
  refine lv_aload_n hx hb dL_law_1588 rfl (lv_at hl 0 rfl) ?_
  refine lv_iload_n hx hb dL_law_1589 rfl (lv_at hl 3 rfl) ?_
  refine lv_iconst (v := 2) hx hb dL_law_1590 (by decide) ?_
  refine lv_iadd hx hb dL_law_1591 ?_
  refine va_sld hx hb hS.2.1 hS.2.2.1 (Nat.not_le.mpr hS.2.2.1) hM.2.2.2 (hi 2 (by decide)) dL_law_1592 ?_
  refine lv_aload_n hx hb dL_law_1593 rfl (lv_at hl 0 rfl) ?_
  refine lv_iload_n hx hb dL_law_1594 rfl (lv_at hl 3 rfl) ?_
  refine lv_iconst (v := 3) hx hb dL_law_1595 (by decide) ?_
  refine lv_iadd hx hb dL_law_1596 ?_
  refine va_sld hx hb hS.2.1 hS.2.2.1 (Nat.not_le.mpr hS.2.2.1) hM.2.2.2 (hi 3 (by decide)) dL_law_1597 ?_
  refine lv_aload_n hx hb dL_law_1598 rfl (lv_at hl 0 rfl) ?_
  refine lv_iload_n hx hb dL_law_1599 rfl (lv_at hl 3 rfl) ?_
  refine lv_iconst (v := 4) hx hb dL_law_1600 (by decide) ?_
  refine lv_iadd hx hb dL_law_1601 ?_
  refine va_sld hx hb hS.2.1 hS.2.2.1 (Nat.not_le.mpr hS.2.2.1) hM.2.2.2 (hi 4 (by decide)) dL_law_1602 ?_
  refine lv_aload_n hx hb dL_law_1603 rfl (lv_at hl 0 rfl) ?_
  refine lv_iload_n hx hb dL_law_1604 rfl (lv_at hl 3 rfl) ?_
  refine lv_iconst (v := 5) hx hb dL_law_1605 (by decide) ?_
  refine lv_iadd hx hb dL_law_1606 ?_
  refine va_sld hx hb hS.2.1 hS.2.2.1 (Nat.not_le.mpr hS.2.2.1) hM.2.2.2 (hi 5 (by decide)) dL_law_1607 ?_
  refine l_mR (v := .int r') (As := [.int (xs (i0 + (1 : Int32)).toNatClampNeg), .int (xs (i0 + (2 : Int32)).toNatClampNeg), .int (xs (i0 + (3 : Int32)).toNatClampNeg), .int (xs (i0 + (4 : Int32)).toNatClampNeg), .int (xs (i0 + (5 : Int32)).toNatClampNeg)]) (rest := [.int (r')]) X hM (metX3_said l D oM qM (dA 0) (dA 1) N M (xs (i0 + (1 : Int32)).toNatClampNeg) (xs (i0 + (2 : Int32)).toNatClampNeg) (xs (i0 + (3 : Int32)).toNatClampNeg) (xs (i0 + (4 : Int32)).toNatClampNeg) (xs (i0 + (5 : Int32)).toNatClampNeg) _ hm) (cwV 5 X.2.2.2.2 gL_167 rfl rfl rfl hX3_said ⟨(Nat.le_of_ble_eq_true rfl), (Nat.le_of_ble_eq_true rfl)⟩) rfl hl.1 rfl (Nat.le_of_ble_eq_true rfl) ⟨hu, hw⟩ dL_law_1608 ?_
  refine lv_icmp_eq (tgt := 1639) hx hb dL_law_1611 rfl (fun _ => ?_) (fun cnd => absurd rfl cnd)
  exact kk S1 M H hI hM

theorem cL_count (hS : LWS K l p m c s args b L xs) (hok : OB_count N INV) (hI : INV S M) (hM : LH D dA o q oM qM S M s H) (hi : ∀ j : Nat, j < 6 → vp_in (i0 + Int32.ofNat j) L) (hl : lv_has ls 4 [(0, .ref b), (1, .ref o), (2, .ref oM), (3, .int i0)]) (hu : u + 9000 ≤ 603072) (hw : w + 110000 ≤ 7262314) (kk : ∀ (S1 : sX) (M1 : sM) (H1 : Heap), INV S1 M1 → LH D dA o q oM qM S1 M1 s H1 → W p l e room_1 s m args below meth c H1 [] (u + 9000) (w + 110000) Q (F0 m 1639 ls [])) : W p l e room_1 s m args below meth c H [] u w Q (F0 m 1616 ls []) := by
  have X := hS.1
  have hx := X.1
  have hb := X.2.1
  unfold LH at hM kk
  unfold OB_count at hok
  refine lv_aload_n hx hb dL_law_1616 rfl (lv_at hl 1 rfl) ?_
  refine lv_aload_n hx hb dL_law_1617 rfl (lv_at hl 0 rfl) ?_
  refine lv_iload_n hx hb dL_law_1618 rfl (lv_at hl 3 rfl) ?_
  refine lv_iconst (v := 1) hx hb dL_law_1619 (by decide) ?_
  refine lv_iadd hx hb dL_law_1620 ?_
  refine va_sld hx hb hS.2.1 hS.2.2.1 (Nat.not_le.mpr hS.2.2.1) hM.2.2.2 (hi 1 (by decide)) dL_law_1621 ?_
  obtain ⟨r, hf, hm⟩ := hok S M (xs (i0 + (1 : Int32)).toNatClampNeg) hI
  refine l_xR (v := .int r) (As := [.int (xs (i0 + (1 : Int32)).toNatClampNeg)]) (rest := []) X hM (metX0_count l D dA o q S (xs (i0 + (1 : Int32)).toNatClampNeg) _ hf) (cwV 1 X.2.2.2.2 gL_168 rfl rfl rfl hX0_count ⟨(Nat.le_of_ble_eq_true rfl), (Nat.le_of_ble_eq_true rfl)⟩) rfl hl.1 rfl (Nat.le_of_ble_eq_true rfl) ⟨Nat.le_trans (Nat.le_add_right _ _) hu, Nat.le_trans (Nat.le_add_right _ _) hw⟩ dL_law_1622 ?_
  refine lv_aload_n hx hb dL_law_1625 rfl (lv_at hl 2 rfl) ?_
  refine lv_aload_n hx hb dL_law_1626 rfl (lv_at hl 0 rfl) ?_
  refine lv_iload_n hx hb dL_law_1627 rfl (lv_at hl 3 rfl) ?_
  refine lv_iconst (v := 1) hx hb dL_law_1628 (by decide) ?_
  refine lv_iadd hx hb dL_law_1629 ?_
  refine va_sld hx hb hS.2.1 hS.2.2.1 (Nat.not_le.mpr hS.2.2.1) hM.2.2.2 (hi 1 (by decide)) dL_law_1630 ?_
  refine l_mR (v := .int r) (As := [.int (xs (i0 + (1 : Int32)).toNatClampNeg)]) (rest := [.int r]) X hM (metX3_count l D oM qM (dA 0) (dA 1) M (xs (i0 + (1 : Int32)).toNatClampNeg) _ hm) (cwV 1 X.2.2.2.2 gL_171 rfl rfl rfl hX3_count ⟨(Nat.le_of_ble_eq_true rfl), (Nat.le_of_ble_eq_true rfl)⟩) rfl hl.1 rfl (Nat.le_of_ble_eq_true rfl) ⟨Nat.le_trans (Nat.le_add_right _ _) hu, Nat.le_trans (Nat.le_add_right _ _) hw⟩ dL_law_1631 ?_
  refine lv_icmp_eq (tgt := 1639) hx hb dL_law_1634 rfl (fun _ => ?_) (fun cnd => absurd rfl cnd)
  exact W.widen (Nat.le_add_right _ _) (Nat.le_add_right _ _) <| kk S M H hI hM

end
