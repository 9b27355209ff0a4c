set_option maxRecDepth 100000
/-- the room of a call of the law -/
def wFt (rm rm2 : Room) : Prop := rm.frames ≤ 200 ∧ rm.locals ≤ 12000 ∧ rm2.frames ≤ 200 ∧ rm2.locals ≤ 12000 ∧ rm.cells + rm2.cells ≤ 64 ∧ rm.slots + rm2.slots ≤ 1024
/-- the call 0 of the law, feed -/
def wO_0 (Z : (Nat → Prop) → State → Heap → Prop) (l : Launch) (D : va_G) (ca : wCA) (a1 a2 a3 a4 a5 : Int32) (sp : List wCell) (μ μm : wMem) (sp1 : List wCell) (μ1 μm1 : wMem) : Prop := ∃ (v : Int32) (rm rm2 : Room), wFt rm rm2 ∧ (∀ q : Nat → Nat, wXi Z l yX0_feed (ws_ yX0_feed cX0_feed 6 (some .int)) rm D vwCl sp sp1 q ca [.ref (q 0), .int a1, .int a2, .int a3, .int a4, .int a5] μ μ1 v) ∧ ∀ qm : Nat → Nat, wMi l yX6_feed cX6_feed 6 (some .int) rm2 D vwCl spM qm ca [.ref (qm 0), .int a1, .int a2, .int a3, .int a4, .int a5] μm (v, μm1)
/-- the call 1 of the law, end -/
def wO_1 (Z : (Nat → Prop) → State → Heap → Prop) (l : Launch) (D : va_G) (ca : wCA) (a1 a2 a3 a4 a5 : Int32) (sp : List wCell) (μ μm : wMem) (sp1 : List wCell) (μ1 μm1 : wMem) : Prop := ∃ (v : Int32) (rm rm2 : Room), wFt rm rm2 ∧ (∀ q : Nat → Nat, wXi Z l yX0_end (ws_ yX0_end cX0_end 2 (some .int)) rm D vwCl sp sp1 q ca [.ref (q 0), .int a1] μ μ1 v) ∧ ∀ qm : Nat → Nat, wMi l yX6_end cX6_end 2 (some .int) rm2 D vwCl spM qm ca [.ref (qm 0), .int a1] μm (v, μm1)
/-- the call 2 of the law, family -/
def wO_2 (Z : (Nat → Prop) → State → Heap → Prop) (l : Launch) (D : va_G) (ca : wCA) (a1 a2 a3 a4 a5 : Int32) (sp : List wCell) (μ μm : wMem) (sp1 : List wCell) (μ1 μm1 : wMem) : Prop := ∃ (v : Int32) (rm rm2 : Room), wFt rm rm2 ∧ (∀ q : Nat → Nat, wXi Z l yX0_family (wsW_ yX0_family cX0_family 4 (some .int) [(0, 33, 40, 120), (0, 33, 67, 0), (40, 60, 67, 0)]) rm D vwCl sp sp1 q ca [.ref (q 0)] μ μ1 v) ∧ ∀ qm : Nat → Nat, wMi l yX6_family cX6_family 1 (some .int) rm2 D vwCl spM qm ca [.ref (qm 0)] μm (v, μm1)
/-- the call 3 of the law, fault -/
def wO_3 (Z : (Nat → Prop) → State → Heap → Prop) (l : Launch) (D : va_G) (ca : wCA) (a1 a2 a3 a4 a5 : Int32) (sp : List wCell) (μ μm : wMem) (sp1 : List wCell) (μ1 μm1 : wMem) : Prop := ∃ (v : Int32) (rm rm2 : Room), wFt rm rm2 ∧ (∀ q : Nat → Nat, wXi Z l yX0_fault (ws_ yX0_fault cX0_fault 2 (some .int)) rm D vwCl sp sp1 q ca [.ref (q 0), .int a1] μ μ1 v) ∧ ∀ qm : Nat → Nat, wMi l yX6_fault cX6_fault 2 (some .int) rm2 D vwCl spM qm ca [.ref (qm 0), .int a1] μm (v, μm1)
/-- the call 4 of the law, person -/
def wO_4 (Z : (Nat → Prop) → State → Heap → Prop) (l : Launch) (D : va_G) (ca : wCA) (a1 a2 a3 a4 a5 : Int32) (sp : List wCell) (μ μm : wMem) (sp1 : List wCell) (μ1 μm1 : wMem) : Prop := ∃ (v : Int32) (rm rm2 : Room), wFt rm rm2 ∧ (∀ q : Nat → Nat, wXi Z l yX0_person (ws_ yX0_person cX0_person 3 (some .int)) rm D vwCl sp sp1 q ca [.ref (q 0), .int a1, .int a2] μ μ1 v) ∧ ∀ qm : Nat → Nat, wMi l yX6_person cX6_person 3 (some .int) rm2 D vwCl spM qm ca [.ref (qm 0), .int a1, .int a2] μm (v, μm1)
/-- the call 5 of the law, post -/
def wO_5 (Z : (Nat → Prop) → State → Heap → Prop) (l : Launch) (D : va_G) (ca : wCA) (a1 a2 a3 a4 a5 : Int32) (sp : List wCell) (μ μm : wMem) (sp1 : List wCell) (μ1 μm1 : wMem) : Prop := ∃ (v : Int32) (rm rm2 : Room), wFt rm rm2 ∧ (∀ q : Nat → Nat, wXi Z l yX0_post (ws_ yX0_post cX0_post 3 (some .int)) rm D vwCl sp sp1 q ca [.ref (q 0), .int a1, .int a2] μ μ1 v) ∧ ∀ qm : Nat → Nat, wMi l yX6_post cX6_post 3 (some .int) rm2 D vwCl spM qm ca [.ref (qm 0), .int a1, .int a2] μm (v, μm1)
/-- the call 6 of the law, risk -/
def wO_6 (Z : (Nat → Prop) → State → Heap → Prop) (l : Launch) (D : va_G) (ca : wCA) (a1 a2 a3 a4 a5 : Int32) (sp : List wCell) (μ μm : wMem) (sp1 : List wCell) (μ1 μm1 : wMem) : Prop := ∃ (v : Int32) (rm rm2 : Room), wFt rm rm2 ∧ (∀ q : Nat → Nat, wXi Z l yX0_risk (ws_ yX0_risk cX0_risk 3 (some .int)) rm D vwCl sp sp1 q ca [.ref (q 0), .int a1, .int a2] μ μ1 v) ∧ ∀ qm : Nat → Nat, wMi l yX6_risk cX6_risk 3 (some .int) rm2 D vwCl spM qm ca [.ref (qm 0), .int a1, .int a2] μm (v, μm1)
/-- the call 7 of the law, after -/
def wO_7 (Z : (Nat → Prop) → State → Heap → Prop) (l : Launch) (D : va_G) (ca : wCA) (a1 a2 a3 a4 a5 : Int32) (sp : List wCell) (μ μm : wMem) (sp1 : List wCell) (μ1 μm1 : wMem) : Prop := ∃ (v : Int32) (rm rm2 : Room), wFt rm rm2 ∧ (∀ q : Nat → Nat, wXi Z l yX0_after (ws_ yX0_after cX0_after 5 (some .int)) rm D vwCl sp sp1 q ca [.ref (q 0), .int a1, .int a2] μ μ1 v) ∧ ∀ qm : Nat → Nat, wMi l yX6_after cX6_after 5 (some .int) rm2 D vwCl spM qm ca [.ref (qm 0), .int a1, .int a2] μm (v, μm1)
/-- the call 8 of the law, now -/
def wO_8 (Z : (Nat → Prop) → State → Heap → Prop) (l : Launch) (D : va_G) (ca : wCA) (a1 a2 a3 a4 a5 : Int32) (sp : List wCell) (μ μm : wMem) (sp1 : List wCell) (μ1 μm1 : wMem) : Prop := ∃ (v : Int32) (rm rm2 : Room), wFt rm rm2 ∧ (∀ q : Nat → Nat, wXi Z l yX0_now (ws_ yX0_now cX0_now 2 (some .int)) rm D vwCl sp sp1 q ca [.ref (q 0), .int a1] μ μ1 v) ∧ ∀ qm : Nat → Nat, wMi l yX6_now cX6_now 2 (some .int) rm2 D vwCl spM qm ca [.ref (qm 0), .int a1] μm (v, μm1)
/-- the call 9 of the law, stamp -/
def wO_9 (Z : (Nat → Prop) → State → Heap → Prop) (l : Launch) (D : va_G) (ca : wCA) (a1 a2 a3 a4 a5 : Int32) (sp : List wCell) (μ μm : wMem) (sp1 : List wCell) (μ1 μm1 : wMem) : Prop := ∃ (v : Int32) (rm rm2 : Room), wFt rm rm2 ∧ (∀ q : Nat → Nat, wXi Z l yX0_stamp (ws_ yX0_stamp cX0_stamp 5 (some .int)) rm D vwCl sp sp1 q ca [.ref (q 0), .int a1] μ μ1 v) ∧ ∀ qm : Nat → Nat, wMi l yX6_stamp cX6_stamp 2 (some .int) rm2 D vwCl spM qm ca [.ref (qm 0), .int a1] μm (v, μm1)
/-- the call 10 of the law, lies -/
def wO_10 (Z : (Nat → Prop) → State → Heap → Prop) (l : Launch) (D : va_G) (ca : wCA) (a1 a2 a3 a4 a5 : Int32) (sp : List wCell) (μ μm : wMem) (sp1 : List wCell) (μ1 μm1 : wMem) : Prop := ∃ (v : Int32) (rm rm2 : Room), wFt rm rm2 ∧ (∀ q : Nat → Nat, wXi Z l yX0_lies (ws_ yX0_lies cX0_lies 2 (some .int)) rm D vwCl sp sp1 q ca [.ref (q 0)] μ μ1 v) ∧ ∀ qm : Nat → Nat, wMi l yX6_lies cX6_lies 1 (some .int) rm2 D vwCl spM qm ca [.ref (qm 0)] μm (v, μm1)
/-- the call 11 of the law, why -/
def wO_11 (Z : (Nat → Prop) → State → Heap → Prop) (l : Launch) (D : va_G) (ca : wCA) (a1 a2 a3 a4 a5 : Int32) (sp : List wCell) (μ μm : wMem) (sp1 : List wCell) (μ1 μm1 : wMem) : Prop := ∃ (v : Int32) (rm rm2 : Room), wFt rm rm2 ∧ (∀ q : Nat → Nat, wXi Z l yX0_why (ws_ yX0_why cX0_why 4 (some .int)) rm D vwCl sp sp1 q ca [.ref (q 0), .int a1, .int a2, .int a3] μ μ1 v) ∧ ∀ qm : Nat → Nat, wMi l yX6_why cX6_why 4 (some .int) rm2 D vwCl spM qm ca [.ref (qm 0), .int a1, .int a2, .int a3] μm (v, μm1)
/-- the call 12 of the law, cross -/
def wO_12 (Z : (Nat → Prop) → State → Heap → Prop) (l : Launch) (D : va_G) (ca : wCA) (a1 a2 a3 a4 a5 : Int32) (sp : List wCell) (μ μm : wMem) (sp1 : List wCell) (μ1 μm1 : wMem) : Prop := ∃ (v : Int32) (rm rm2 : Room), wFt rm rm2 ∧ (∀ q : Nat → Nat, wXi Z l yX0_cross (ws_ yX0_cross cX0_cross 4 (some .int)) rm D vwCl sp sp1 q ca [.ref (q 0), .int a1, .int a2, .int a3] μ μ1 v) ∧ ∀ qm : Nat → Nat, wMi l yX6_cross cX6_cross 4 (some .int) rm2 D vwCl spM qm ca [.ref (qm 0), .int a1, .int a2, .int a3] μm (v, μm1)
/-- the call 13 of the law, loaf -/
def wO_13 (Z : (Nat → Prop) → State → Heap → Prop) (l : Launch) (D : va_G) (ca : wCA) (a1 a2 a3 a4 a5 : Int32) (sp : List wCell) (μ μm : wMem) (sp1 : List wCell) (μ1 μm1 : wMem) : Prop := ∃ (v : Int32) (rm rm2 : Room), wFt rm rm2 ∧ (∀ q : Nat → Nat, wXi Z l yX0_loaf (ws_ yX0_loaf cX0_loaf 1 (some .int)) rm D vwCl sp sp1 q ca [.ref (q 0)] μ μ1 v) ∧ ∀ qm : Nat → Nat, wMi l yX6_loaf cX6_loaf 1 (some .int) rm2 D vwCl spM qm ca [.ref (qm 0)] μm (v, μm1)
/-- the call 14 of the law, undo -/
def wO_14 (Z : (Nat → Prop) → State → Heap → Prop) (l : Launch) (D : va_G) (ca : wCA) (a1 a2 a3 a4 a5 : Int32) (sp : List wCell) (μ μm : wMem) (sp1 : List wCell) (μ1 μm1 : wMem) : Prop := ∃ (v : Int32) (rm rm2 : Room), wFt rm rm2 ∧ (∀ q : Nat → Nat, wXi Z l yX0_undo (ws_ yX0_undo cX0_undo 1 (some .int)) rm D vwCl sp sp1 q ca [.ref (q 0)] μ μ1 v) ∧ ∀ qm : Nat → Nat, wMi l yX6_undo cX6_undo 1 (some .int) rm2 D vwCl spM qm ca [.ref (qm 0)] μm (v, μm1)
/-- the call 15 of the law, anew -/
def wO_15 (Z : (Nat → Prop) → State → Heap → Prop) (l : Launch) (D : va_G) (ca : wCA) (a1 a2 a3 a4 a5 : Int32) (sp : List wCell) (μ μm : wMem) (sp1 : List wCell) (μ1 μm1 : wMem) : Prop := ∃ (v : Int32) (rm rm2 : Room), wFt rm rm2 ∧ (∀ q : Nat → Nat, wXi Z l yX0_anew (ws_ yX0_anew cX0_anew 2 (some .int)) rm D vwCl sp sp1 q ca [.ref (q 0)] μ μ1 v) ∧ ∀ qm : Nat → Nat, wMi l yX6_anew cX6_anew 2 (some .int) rm2 D vwCl spM qm ca [.ref (qm 0)] μm (v, μm1)
/-- the call 16 of the law, act -/
def wO_16 (Z : (Nat → Prop) → State → Heap → Prop) (l : Launch) (D : va_G) (ca : wCA) (a1 a2 a3 a4 a5 : Int32) (sp : List wCell) (μ μm : wMem) (sp1 : List wCell) (μ1 μm1 : wMem) : Prop := ∃ (v : Int32) (rm rm2 : Room), wFt rm rm2 ∧ (∀ q : Nat → Nat, wXi Z l yX0_act (ws_ yX0_act cX0_act 2 (some .int)) rm D vwCl sp sp1 q ca [.ref (q 0), .int a1] μ μ1 v) ∧ ∀ qm : Nat → Nat, wMi l yX6_act cX6_act 2 (some .int) rm2 D vwCl spM qm ca [.ref (qm 0), .int a1] μm (v, μm1)
/-- the call 17 of the law, acts -/
def wO_17 (Z : (Nat → Prop) → State → Heap → Prop) (l : Launch) (D : va_G) (ca : wCA) (a1 a2 a3 a4 a5 : Int32) (sp : List wCell) (μ μm : wMem) (sp1 : List wCell) (μ1 μm1 : wMem) : Prop := ∃ (v : Int32) (rm rm2 : Room), wFt rm rm2 ∧ (∀ q : Nat → Nat, wXi Z l yX0_acts (ws_ yX0_acts cX0_acts 3 (some .int)) rm D vwCl sp sp1 q ca [.ref (q 0)] μ μ1 v) ∧ ∀ qm : Nat → Nat, wMi l yX6_acts cX6_acts 3 (some .int) rm2 D vwCl spM qm ca [.ref (qm 0)] μm (v, μm1)
/-- the call 18 of the law, may -/
def wO_18 (Z : (Nat → Prop) → State → Heap → Prop) (l : Launch) (D : va_G) (ca : wCA) (a1 a2 a3 a4 a5 : Int32) (sp : List wCell) (μ μm : wMem) (sp1 : List wCell) (μ1 μm1 : wMem) : Prop := ∃ (v : Int32) (rm rm2 : Room), wFt rm rm2 ∧ (∀ q : Nat → Nat, wXi Z l yX0_may (ws_ yX0_may cX0_may 4 (some .int)) rm D vwCl sp sp1 q ca [.ref (q 0), .int a1] μ μ1 v) ∧ ∀ qm : Nat → Nat, wMi l yX6_may cX6_may 4 (some .int) rm2 D vwCl spM qm ca [.ref (qm 0), .int a1] μm (v, μm1)
/-- the call 19 of the law, days -/
def wO_19 (Z : (Nat → Prop) → State → Heap → Prop) (l : Launch) (D : va_G) (ca : wCA) (a1 a2 a3 a4 a5 : Int32) (sp : List wCell) (μ μm : wMem) (sp1 : List wCell) (μ1 μm1 : wMem) : Prop := ∃ (v : Int32) (rm rm2 : Room), wFt rm rm2 ∧ (∀ q : Nat → Nat, wXi Z l yX0_days (ws_ yX0_days cX0_days 1 (some .int)) rm D vwCl sp sp1 q ca [.ref (q 0)] μ μ1 v) ∧ ∀ qm : Nat → Nat, wMi l yX6_days cX6_days 2 (some .int) rm2 D vwCl spM qm ca [.ref (qm 0)] μm (v, μm1)
/-- the call 20 of the law, plan -/
def wO_20 (Z : (Nat → Prop) → State → Heap → Prop) (l : Launch) (D : va_G) (ca : wCA) (a1 a2 a3 a4 a5 : Int32) (sp : List wCell) (μ μm : wMem) (sp1 : List wCell) (μ1 μm1 : wMem) : Prop := ∃ (v : Int32) (rm rm2 : Room), wFt rm rm2 ∧ (∀ q : Nat → Nat, wXi Z l yX0_plan (ws_ yX0_plan cX0_plan 2 (some .int)) rm D vwCl sp sp1 q ca [.ref (q 0), .int a1] μ μ1 v) ∧ ∀ qm : Nat → Nat, wMi l yX6_plan cX6_plan 2 (some .int) rm2 D vwCl spM qm ca [.ref (qm 0), .int a1] μm (v, μm1)
/-- the call 21 of the law, surest -/
def wO_21 (Z : (Nat → Prop) → State → Heap → Prop) (l : Launch) (D : va_G) (ca : wCA) (a1 a2 a3 a4 a5 : Int32) (sp : List wCell) (μ μm : wMem) (sp1 : List wCell) (μ1 μm1 : wMem) : Prop := ∃ (v : Int32) (rm rm2 : Room), wFt rm rm2 ∧ (∀ q : Nat → Nat, wXi Z l yX0_surest (ws_ yX0_surest cX0_surest 1 (some .int)) rm D vwCl sp sp1 q ca [.ref (q 0)] μ μ1 v) ∧ ∀ qm : Nat → Nat, wMi l yX6_surest cX6_surest 2 (some .int) rm2 D vwCl spM qm ca [.ref (qm 0)] μm (v, μm1)
/-- the call 22 of the law, surely -/
def wO_22 (Z : (Nat → Prop) → State → Heap → Prop) (l : Launch) (D : va_G) (ca : wCA) (a1 a2 a3 a4 a5 : Int32) (sp : List wCell) (μ μm : wMem) (sp1 : List wCell) (μ1 μm1 : wMem) : Prop := ∃ (v : Int32) (rm rm2 : Room), wFt rm rm2 ∧ (∀ q : Nat → Nat, wXi Z l yX0_surely (ws_ yX0_surely cX0_surely 2 (some .int)) rm D vwCl sp sp1 q ca [.ref (q 0), .int a1] μ μ1 v) ∧ ∀ qm : Nat → Nat, wMi l yX6_surely cX6_surely 2 (some .int) rm2 D vwCl spM qm ca [.ref (qm 0), .int a1] μm (v, μm1)
/-- the call 23 of the law, slowly -/
def wO_23 (Z : (Nat → Prop) → State → Heap → Prop) (l : Launch) (D : va_G) (ca : wCA) (a1 a2 a3 a4 a5 : Int32) (sp : List wCell) (μ μm : wMem) (sp1 : List wCell) (μ1 μm1 : wMem) : Prop := ∃ (v : Int32) (rm rm2 : Room), wFt rm rm2 ∧ (∀ q : Nat → Nat, wXi Z l yX0_slowly (ws_ yX0_slowly cX0_slowly 2 (some .int)) rm D vwCl sp sp1 q ca [.ref (q 0)] μ μ1 v) ∧ ∀ qm : Nat → Nat, wMi l yX6_slowly cX6_slowly 2 (some .int) rm2 D vwCl spM qm ca [.ref (qm 0)] μm (v, μm1)
/-- the call 24 of the law, crossings -/
def wO_24 (Z : (Nat → Prop) → State → Heap → Prop) (l : Launch) (D : va_G) (ca : wCA) (a1 a2 a3 a4 a5 : Int32) (sp : List wCell) (μ μm : wMem) (sp1 : List wCell) (μ1 μm1 : wMem) : Prop := ∃ (v : Int32) (rm rm2 : Room), wFt rm rm2 ∧ (∀ q : Nat → Nat, wXi Z l yX0_crossings (ws_ yX0_crossings cX0_crossings 2 (some .int)) rm D vwCl sp sp1 q ca [.ref (q 0)] μ μ1 v) ∧ ∀ qm : Nat → Nat, wMi l yX6_crossings cX6_crossings 2 (some .int) rm2 D vwCl spM qm ca [.ref (qm 0)] μm (v, μm1)
/-- the call 25 of the law, moves -/
def wO_25 (Z : (Nat → Prop) → State → Heap → Prop) (l : Launch) (D : va_G) (ca : wCA) (a1 a2 a3 a4 a5 : Int32) (sp : List wCell) (μ μm : wMem) (sp1 : List wCell) (μ1 μm1 : wMem) : Prop := ∃ (v : Int32) (rm rm2 : Room), wFt rm rm2 ∧ (∀ q : Nat → Nat, wXi Z l yX0_moves (ws_ yX0_moves cX0_moves 2 (some .int)) rm D vwCl sp sp1 q ca [.ref (q 0)] μ μ1 v) ∧ ∀ qm : Nat → Nat, wMi l yX6_moves cX6_moves 2 (some .int) rm2 D vwCl spM qm ca [.ref (qm 0)] μm (v, μm1)
/-- the call 26 of the law, chance -/
def wO_26 (Z : (Nat → Prop) → State → Heap → Prop) (l : Launch) (D : va_G) (ca : wCA) (a1 a2 a3 a4 a5 : Int32) (sp : List wCell) (μ μm : wMem) (sp1 : List wCell) (μ1 μm1 : wMem) : Prop := ∃ (v : Int64) (rm rm2 : Room), wFt rm rm2 ∧ (∀ q : Nat → Nat, wXl Z l yX0_chance (ws_ yX0_chance cX0_chance 8 (some .long)) rm D vwCl sp sp1 q ca [.ref (q 0), .int a1] μ μ1 v) ∧ ∀ qm : Nat → Nat, wMl l yX6_chance cX6_chance 8 (some .long) rm2 D vwCl spM qm ca [.ref (qm 0), .int a1] μm (v, μm1)
/-- the call 27 of the law, states -/
def wO_27 (Z : (Nat → Prop) → State → Heap → Prop) (l : Launch) (D : va_G) (ca : wCA) (a1 a2 a3 a4 a5 : Int32) (sp : List wCell) (μ μm : wMem) (sp1 : List wCell) (μ1 μm1 : wMem) : Prop := ∃ (v : Int32) (rm rm2 : Room), wFt rm rm2 ∧ (∀ q : Nat → Nat, wXi Z l yX0_states (ws_ yX0_states cX0_states 1 (some .int)) rm D vwCl sp sp1 q ca [.ref (q 0)] μ μ1 v) ∧ ∀ qm : Nat → Nat, wMi l yX6_states cX6_states 1 (some .int) rm2 D vwCl spM qm ca [.ref (qm 0)] μm (v, μm1)
/-- the call 28 of the law, hopeful -/
def wO_28 (Z : (Nat → Prop) → State → Heap → Prop) (l : Launch) (D : va_G) (ca : wCA) (a1 a2 a3 a4 a5 : Int32) (sp : List wCell) (μ μm : wMem) (sp1 : List wCell) (μ1 μm1 : wMem) : Prop := ∃ (v : Int32) (rm rm2 : Room), wFt rm rm2 ∧ (∀ q : Nat → Nat, wXi Z l yX0_hopeful (ws_ yX0_hopeful cX0_hopeful 5 (some .int)) rm D vwCl sp sp1 q ca [.ref (q 0)] μ μ1 v) ∧ ∀ qm : Nat → Nat, wMi l yX6_hopeful cX6_hopeful 3 (some .int) rm2 D vwCl spM qm ca [.ref (qm 0)] μm (v, μm1)
/-- the call 29 of the law, till -/
def wO_29 (Z : (Nat → Prop) → State → Heap → Prop) (l : Launch) (D : va_G) (ca : wCA) (a1 a2 a3 a4 a5 : Int32) (sp : List wCell) (μ μm : wMem) (sp1 : List wCell) (μ1 μm1 : wMem) : Prop := ∃ (v : Int32) (rm rm2 : Room), wFt rm rm2 ∧ (∀ q : Nat → Nat, wXi Z l yX0_till (ws_ yX0_till cX0_till 3 (some .int)) rm D vwCl sp sp1 q ca [.ref (q 0), .int a1] μ μ1 v) ∧ ∀ qm : Nat → Nat, wMi l yX6_till cX6_till 3 (some .int) rm2 D vwCl spM qm ca [.ref (qm 0), .int a1] μm (v, μm1)
/-- the call 30 of the law, over -/
def wO_30 (Z : (Nat → Prop) → State → Heap → Prop) (l : Launch) (D : va_G) (ca : wCA) (a1 a2 a3 a4 a5 : Int32) (sp : List wCell) (μ μm : wMem) (sp1 : List wCell) (μ1 μm1 : wMem) : Prop := ∃ (v : Int32) (rm rm2 : Room), wFt rm rm2 ∧ (∀ q : Nat → Nat, wXi Z l yX0_over (ws_ yX0_over cX0_over 3 (some .int)) rm D vwCl sp sp1 q ca [.ref (q 0), .int a1] μ μ1 v) ∧ ∀ qm : Nat → Nat, wMi l yX6_over cX6_over 3 (some .int) rm2 D vwCl spM qm ca [.ref (qm 0), .int a1] μm (v, μm1)
/-- the call 31 of the law, never -/
def wO_31 (Z : (Nat → Prop) → State → Heap → Prop) (l : Launch) (D : va_G) (ca : wCA) (a1 a2 a3 a4 a5 : Int32) (sp : List wCell) (μ μm : wMem) (sp1 : List wCell) (μ1 μm1 : wMem) : Prop := ∃ (v : Int32) (rm rm2 : Room), wFt rm rm2 ∧ (∀ q : Nat → Nat, wXi Z l yX0_never (ws_ yX0_never cX0_never 3 (some .int)) rm D vwCl sp sp1 q ca [.ref (q 0)] μ μ1 v) ∧ ∀ qm : Nat → Nat, wMi l yX6_never cX6_never 3 (some .int) rm2 D vwCl spM qm ca [.ref (qm 0)] μm (v, μm1)
/-- the call 32 of the law, lost -/
def wO_32 (Z : (Nat → Prop) → State → Heap → Prop) (l : Launch) (D : va_G) (ca : wCA) (a1 a2 a3 a4 a5 : Int32) (sp : List wCell) (μ μm : wMem) (sp1 : List wCell) (μ1 μm1 : wMem) : Prop := ∃ (v : Int32) (rm rm2 : Room), wFt rm rm2 ∧ (∀ q : Nat → Nat, wXi Z l yX0_lost (ws_ yX0_lost cX0_lost 4 (some .int)) rm D vwCl sp sp1 q ca [.ref (q 0), .int a1] μ μ1 v) ∧ ∀ qm : Nat → Nat, wMi l yX6_lost cX6_lost 2 (some .int) rm2 D vwCl spM qm ca [.ref (qm 0), .int a1] μm (v, μm1)
/-- the call 33 of the law, worst -/
def wO_33 (Z : (Nat → Prop) → State → Heap → Prop) (l : Launch) (D : va_G) (ca : wCA) (a1 a2 a3 a4 a5 : Int32) (sp : List wCell) (μ μm : wMem) (sp1 : List wCell) (μ1 μm1 : wMem) : Prop := ∃ (v : Int32) (rm rm2 : Room), wFt rm rm2 ∧ (∀ q : Nat → Nat, wXi Z l yX0_worst (ws_ yX0_worst cX0_worst 5 (some .int)) rm D vwCl sp sp1 q ca [.ref (q 0)] μ μ1 v) ∧ ∀ qm : Nat → Nat, wMi l yX6_worst cX6_worst 6 (some .int) rm2 D vwCl spM qm ca [.ref (qm 0)] μm (v, μm1)
/-- the call 34 of the law, judge -/
def wO_34 (Z : (Nat → Prop) → State → Heap → Prop) (l : Launch) (D : va_G) (ca : wCA) (a1 a2 a3 a4 a5 : Int32) (sp : List wCell) (μ μm : wMem) (sp1 : List wCell) (μ1 μm1 : wMem) : Prop := ∃ (v : Int32) (rm rm2 : Room), wFt rm rm2 ∧ (∀ q : Nat → Nat, wXi Z l yX0_judge (ws_ yX0_judge cX0_judge 3 (some .int)) rm D vwCl sp sp1 q ca [.ref (q 0), .int a1] μ μ1 v) ∧ ∀ qm : Nat → Nat, wMi l yX6_judge cX6_judge 3 (some .int) rm2 D vwCl spM qm ca [.ref (qm 0), .int a1] μm (v, μm1)
/-- the call 35 of the law, there -/
def wO_35 (Z : (Nat → Prop) → State → Heap → Prop) (l : Launch) (D : va_G) (ca : wCA) (a1 a2 a3 a4 a5 : Int32) (sp : List wCell) (μ μm : wMem) (sp1 : List wCell) (μ1 μm1 : wMem) : Prop := ∃ (v : Int32) (rm rm2 : Room), wFt rm rm2 ∧ (∀ q : Nat → Nat, wXi Z l yX0_there (ws_ yX0_there cX0_there 3 (some .int)) rm D vwCl sp sp1 q ca [.ref (q 0), .int a1] μ μ1 v) ∧ ∀ qm : Nat → Nat, wMi l yX6_there cX6_there 2 (some .int) rm2 D vwCl spM qm ca [.ref (qm 0), .int a1] μm (v, μm1)
/-- the call 36 of the law, takes -/
def wO_36 (Z : (Nat → Prop) → State → Heap → Prop) (l : Launch) (D : va_G) (ca : wCA) (a1 a2 a3 a4 a5 : Int32) (sp : List wCell) (μ μm : wMem) (sp1 : List wCell) (μ1 μm1 : wMem) : Prop := ∃ (v : Int32) (rm rm2 : Room), wFt rm rm2 ∧ (∀ q : Nat → Nat, wXi Z l yX0_takes (ws_ yX0_takes cX0_takes 3 (some .int)) rm D vwCl sp sp1 q ca [.ref (q 0), .int a1] μ μ1 v) ∧ ∀ qm : Nat → Nat, wMi l yX6_takes_2 cX6_takes_2 2 (some .int) rm2 D vwCl spM qm ca [.ref (qm 0), .int a1] μm (v, μm1)
/-- the call 37 of the law, dares -/
def wO_37 (Z : (Nat → Prop) → State → Heap → Prop) (l : Launch) (D : va_G) (ca : wCA) (a1 a2 a3 a4 a5 : Int32) (sp : List wCell) (μ μm : wMem) (sp1 : List wCell) (μ1 μm1 : wMem) : Prop := ∃ (v : Int32) (rm rm2 : Room), wFt rm rm2 ∧ (∀ q : Nat → Nat, wXi Z l yX0_dares (ws_ yX0_dares cX0_dares 3 (some .int)) rm D vwCl sp sp1 q ca [.ref (q 0), .int a1] μ μ1 v) ∧ ∀ qm : Nat → Nat, wMi l yX6_dares cX6_dares 2 (some .int) rm2 D vwCl spM qm ca [.ref (qm 0), .int a1] μm (v, μm1)
/-- the call 38 of the law, lied -/
def wO_38 (Z : (Nat → Prop) → State → Heap → Prop) (l : Launch) (D : va_G) (ca : wCA) (a1 a2 a3 a4 a5 : Int32) (sp : List wCell) (μ μm : wMem) (sp1 : List wCell) (μ1 μm1 : wMem) : Prop := ∃ (v : Int32) (rm rm2 : Room), wFt rm rm2 ∧ (∀ q : Nat → Nat, wXi Z l yX0_lied (ws_ yX0_lied cX0_lied 3 (some .int)) rm D vwCl sp sp1 q ca [.ref (q 0), .int a1] μ μ1 v) ∧ ∀ qm : Nat → Nat, wMi l yX6_lied cX6_lied 2 (some .int) rm2 D vwCl spM qm ca [.ref (qm 0), .int a1] μm (v, μm1)
/-- the call 39 of the law, stamped -/
def wO_39 (Z : (Nat → Prop) → State → Heap → Prop) (l : Launch) (D : va_G) (ca : wCA) (a1 a2 a3 a4 a5 : Int32) (sp : List wCell) (μ μm : wMem) (sp1 : List wCell) (μ1 μm1 : wMem) : Prop := ∃ (v : Int64) (rm rm2 : Room), wFt rm rm2 ∧ (∀ q : Nat → Nat, wXl Z l yX0_stamped (ws_ yX0_stamped cX0_stamped 6 (some .long)) rm D vwCl sp sp1 q ca [.ref (q 0), .int a1] μ μ1 v) ∧ ∀ qm : Nat → Nat, wMl l yX6_stamped cX6_stamped 3 (some .long) rm2 D vwCl spM qm ca [.ref (qm 0), .int a1] μm (v, μm1)
/-- the call 40 of the law, had -/
def wO_40 (Z : (Nat → Prop) → State → Heap → Prop) (l : Launch) (D : va_G) (ca : wCA) (a1 a2 a3 a4 a5 : Int32) (sp : List wCell) (μ μm : wMem) (sp1 : List wCell) (μ1 μm1 : wMem) : Prop := ∃ (v : Int32) (rm rm2 : Room), wFt rm rm2 ∧ (∀ q : Nat → Nat, wXi Z l yX0_had (ws_ yX0_had cX0_had 4 (some .int)) rm D vwCl sp sp1 q ca [.ref (q 0), .int a1, .int a2] μ μ1 v) ∧ ∀ qm : Nat → Nat, wMi l yX6_had cX6_had 4 (some .int) rm2 D vwCl spM qm ca [.ref (qm 0), .int a1, .int a2] μm (v, μm1)
/-- the call 41 of the law, sure -/
def wO_41 (Z : (Nat → Prop) → State → Heap → Prop) (l : Launch) (D : va_G) (ca : wCA) (a1 a2 a3 a4 a5 : Int32) (sp : List wCell) (μ μm : wMem) (sp1 : List wCell) (μ1 μm1 : wMem) : Prop := ∃ (v : Int32) (rm rm2 : Room), wFt rm rm2 ∧ (∀ q : Nat → Nat, wXi Z l yX0_sure (ws_ yX0_sure cX0_sure 6 (some .int)) rm D vwCl sp sp1 q ca [.ref (q 0), .int a1, .int a2] μ μ1 v) ∧ ∀ qm : Nat → Nat, wMi l yX6_sure cX6_sure 4 (some .int) rm2 D vwCl spM qm ca [.ref (qm 0), .int a1, .int a2] μm (v, μm1)
/-- the call 42 of the law, dared -/
def wO_42 (Z : (Nat → Prop) → State → Heap → Prop) (l : Launch) (D : va_G) (ca : wCA) (a1 a2 a3 a4 a5 : Int32) (sp : List wCell) (μ μm : wMem) (sp1 : List wCell) (μ1 μm1 : wMem) : Prop := ∃ (v : Int32) (rm rm2 : Room), wFt rm rm2 ∧ (∀ q : Nat → Nat, wXi Z l yX0_dared (ws_ yX0_dared cX0_dared 5 (some .int)) rm D vwCl sp sp1 q ca [.ref (q 0), .int a1] μ μ1 v) ∧ ∀ qm : Nat → Nat, wMi l yX6_dared cX6_dared 3 (some .int) rm2 D vwCl spM qm ca [.ref (qm 0), .int a1] μm (v, μm1)
/-- the call 43 of the law, alone -/
def wO_43 (Z : (Nat → Prop) → State → Heap → Prop) (l : Launch) (D : va_G) (ca : wCA) (a1 a2 a3 a4 a5 : Int32) (sp : List wCell) (μ μm : wMem) (sp1 : List wCell) (μ1 μm1 : wMem) : Prop := ∃ (v : Int32) (rm rm2 : Room), wFt rm rm2 ∧ (∀ q : Nat → Nat, wXi Z l yX0_alone (ws_ yX0_alone cX0_alone 3 (some .int)) rm D vwCl sp sp1 q ca [.ref (q 0), .int a1, .int a2] μ μ1 v) ∧ ∀ qm : Nat → Nat, wMi l yX6_alone cX6_alone 3 (some .int) rm2 D vwCl spM qm ca [.ref (qm 0), .int a1, .int a2] μm (v, μm1)
/-- the call 44 of the law, worth -/
def wO_44 (Z : (Nat → Prop) → State → Heap → Prop) (l : Launch) (D : va_G) (ca : wCA) (a1 a2 a3 a4 a5 : Int32) (sp : List wCell) (μ μm : wMem) (sp1 : List wCell) (μ1 μm1 : wMem) : Prop := ∃ (v : Int32) (rm rm2 : Room), wFt rm rm2 ∧ (∀ q : Nat → Nat, wXi Z l yX0_worth (ws_ yX0_worth cX0_worth 3 (some .int)) rm D vwCl sp sp1 q ca [.ref (q 0), .int a1, .int a2] μ μ1 v) ∧ ∀ qm : Nat → Nat, wMi l yX6_worth cX6_worth 4 (some .int) rm2 D vwCl spM qm ca [.ref (qm 0), .int a1, .int a2] μm (v, μm1)
/-- the call 45 of the law, whom -/
def wO_45 (Z : (Nat → Prop) → State → Heap → Prop) (l : Launch) (D : va_G) (ca : wCA) (a1 a2 a3 a4 a5 : Int32) (sp : List wCell) (μ μm : wMem) (sp1 : List wCell) (μ1 μm1 : wMem) : Prop := ∃ (v : Int32) (rm rm2 : Room), wFt rm rm2 ∧ (∀ q : Nat → Nat, wXi Z l yX0_whom (ws_ yX0_whom cX0_whom 6 (some .int)) rm D vwCl sp sp1 q ca [.ref (q 0), .int a1] μ μ1 v) ∧ ∀ qm : Nat → Nat, wMi l yX6_whom cX6_whom 7 (some .int) rm2 D vwCl spM qm ca [.ref (qm 0), .int a1] μm (v, μm1)
/-- the call 46 of the law, blur -/
def wO_46 (Z : (Nat → Prop) → State → Heap → Prop) (l : Launch) (D : va_G) (ca : wCA) (a1 a2 a3 a4 a5 : Int32) (sp : List wCell) (μ μm : wMem) (sp1 : List wCell) (μ1 μm1 : wMem) : Prop := ∃ (v : Int32) (rm rm2 : Room), wFt rm rm2 ∧ (∀ q : Nat → Nat, wXi Z l yX0_blur (ws_ yX0_blur cX0_blur 5 (some .int)) rm D vwCl sp sp1 q ca [.ref (q 0), .int a1] μ μ1 v) ∧ ∀ qm : Nat → Nat, wMi l yX6_blur cX6_blur 5 (some .int) rm2 D vwCl spM qm ca [.ref (qm 0), .int a1] μm (v, μm1)
/-- the call 47 of the law, looks -/
def wO_47 (Z : (Nat → Prop) → State → Heap → Prop) (l : Launch) (D : va_G) (ca : wCA) (a1 a2 a3 a4 a5 : Int32) (sp : List wCell) (μ μm : wMem) (sp1 : List wCell) (μ1 μm1 : wMem) : Prop := ∃ (v : Int32) (rm rm2 : Room), wFt rm rm2 ∧ (∀ q : Nat → Nat, wXi Z l yX0_looks (ws_ yX0_looks cX0_looks 5 (some .int)) rm D vwCl sp sp1 q ca [.ref (q 0), .int a1] μ μ1 v) ∧ ∀ qm : Nat → Nat, wMi l yX6_looks cX6_looks 5 (some .int) rm2 D vwCl spM qm ca [.ref (qm 0), .int a1] μm (v, μm1)
/-- the call 48 of the law, drawn -/
def wO_48 (Z : (Nat → Prop) → State → Heap → Prop) (l : Launch) (D : va_G) (ca : wCA) (a1 a2 a3 a4 a5 : Int32) (sp : List wCell) (μ μm : wMem) (sp1 : List wCell) (μ1 μm1 : wMem) : Prop := ∃ (v : Int32) (rm rm2 : Room), wFt rm rm2 ∧ (∀ q : Nat → Nat, wXi Z l yX0_drawn (ws_ yX0_drawn cX0_drawn 3 (some .int)) rm D vwCl sp sp1 q ca [.ref (q 0), .int a1, .int a2] μ μ1 v) ∧ ∀ qm : Nat → Nat, wMi l yX6_drawn cX6_drawn 4 (some .int) rm2 D vwCl spM qm ca [.ref (qm 0), .int a1, .int a2] μm (v, μm1)
/-- the call 49 of the law, luck -/
def wO_49 (Z : (Nat → Prop) → State → Heap → Prop) (l : Launch) (D : va_G) (ca : wCA) (a1 a2 a3 a4 a5 : Int32) (sp : List wCell) (μ μm : wMem) (sp1 : List wCell) (μ1 μm1 : wMem) : Prop := ∃ (v : Int32) (rm rm2 : Room), wFt rm rm2 ∧ (∀ q : Nat → Nat, wXi Z l yX0_luck (ws_ yX0_luck cX0_luck 5 (some .int)) rm D vwCl sp sp1 q ca [.ref (q 0), .int a1, .int a2] μ μ1 v) ∧ ∀ qm : Nat → Nat, wMi l yX6_luck cX6_luck 5 (some .int) rm2 D vwCl spM qm ca [.ref (qm 0), .int a1, .int a2] μm (v, μm1)
/-- the call 50 of the law, grow -/
def wO_50 (Z : (Nat → Prop) → State → Heap → Prop) (l : Launch) (D : va_G) (ca : wCA) (a1 a2 a3 a4 a5 : Int32) (sp : List wCell) (μ μm : wMem) (sp1 : List wCell) (μ1 μm1 : wMem) : Prop := ∃ (v : Int32) (rm rm2 : Room), wFt rm rm2 ∧ (∀ q : Nat → Nat, wXi Z l yX0_grow (ws_ yX0_grow cX0_grow 4 (some .int)) rm D vwCl sp sp1 q ca [.ref (q 0), .int a1, .int a2] μ μ1 v) ∧ ∀ qm : Nat → Nat, wMi l yX6_grow cX6_grow 4 (some .int) rm2 D vwCl spM qm ca [.ref (qm 0), .int a1, .int a2] μm (v, μm1)
/-- the call 51 of the law, guard -/
def wO_51 (Z : (Nat → Prop) → State → Heap → Prop) (l : Launch) (D : va_G) (ca : wCA) (a1 a2 a3 a4 a5 : Int32) (sp : List wCell) (μ μm : wMem) (sp1 : List wCell) (μ1 μm1 : wMem) : Prop := ∃ (v : Int32) (rm rm2 : Room), wFt rm rm2 ∧ (∀ q : Nat → Nat, wXi Z l yX0_guard (ws_ yX0_guard cX0_guard 4 (some .int)) rm D vwCl sp sp1 q ca [.ref (q 0), .int a1, .int a2] μ μ1 v) ∧ ∀ qm : Nat → Nat, wMi l yX6_guard cX6_guard 4 (some .int) rm2 D vwCl spM qm ca [.ref (qm 0), .int a1, .int a2] μm (v, μm1)
/-- the call 52 of the law, stay -/
def wO_52 (Z : (Nat → Prop) → State → Heap → Prop) (l : Launch) (D : va_G) (ca : wCA) (a1 a2 a3 a4 a5 : Int32) (sp : List wCell) (μ μm : wMem) (sp1 : List wCell) (μ1 μm1 : wMem) : Prop := ∃ (v : Int32) (rm rm2 : Room), wFt rm rm2 ∧ (∀ q : Nat → Nat, wXi Z l yX0_stay (ws_ yX0_stay cX0_stay 4 (some .int)) rm D vwCl sp sp1 q ca [.ref (q 0), .int a1, .int a2] μ μ1 v) ∧ ∀ qm : Nat → Nat, wMi l yX6_stay cX6_stay 4 (some .int) rm2 D vwCl spM qm ca [.ref (qm 0), .int a1, .int a2] μm (v, μm1)
/-- the call 53 of the law, count -/
def wO_53 (Z : (Nat → Prop) → State → Heap → Prop) (l : Launch) (D : va_G) (ca : wCA) (a1 a2 a3 a4 a5 : Int32) (sp : List wCell) (μ μm : wMem) (sp1 : List wCell) (μ1 μm1 : wMem) : Prop := ∃ (v : Int32) (rm rm2 : Room), wFt rm rm2 ∧ (∀ q : Nat → Nat, wXi Z l yX0_count (ws_ yX0_count cX0_count 4 (some .int)) rm D vwCl sp sp1 q ca [.ref (q 0), .int a1] μ μ1 v) ∧ ∀ qm : Nat → Nat, wMi l yX6_count cX6_count 4 (some .int) rm2 D vwCl spM qm ca [.ref (qm 0), .int a1] μm (v, μm1)
/-- the call 54 of the law, image -/
def wO_54 (Z : (Nat → Prop) → State → Heap → Prop) (l : Launch) (D : va_G) (ca : wCA) (a1 a2 a3 a4 a5 : Int32) (sp : List wCell) (μ μm : wMem) (sp1 : List wCell) (μ1 μm1 : wMem) : Prop := ∃ (v : Int32) (rm rm2 : Room), wFt rm rm2 ∧ (∀ q : Nat → Nat, wXi Z l yX0_image (ws_ yX0_image cX0_image 2 (some .int)) rm D vwCl sp sp1 q ca [.ref (q 0), .int a1] μ μ1 v) ∧ ∀ qm : Nat → Nat, wMi l yX6_image cX6_image 2 (some .int) rm2 D vwCl spM qm ca [.ref (qm 0), .int a1] μm (v, μm1)
/-- the call 55 of the law, back -/
def wO_55 (Z : (Nat → Prop) → State → Heap → Prop) (l : Launch) (D : va_G) (ca : wCA) (a1 a2 a3 a4 a5 : Int32) (sp : List wCell) (μ μm : wMem) (sp1 : List wCell) (μ1 μm1 : wMem) : Prop := ∃ (v : Int32) (rm rm2 : Room), wFt rm rm2 ∧ (∀ q : Nat → Nat, wXi Z l yX0_back (ws_ yX0_back cX0_back 2 (some .int)) rm D vwCl sp sp1 q ca [.ref (q 0), .int a1] μ μ1 v) ∧ ∀ qm : Nat → Nat, wMi l yX6_back cX6_back 2 (some .int) rm2 D vwCl spM qm ca [.ref (qm 0), .int a1] μm (v, μm1)
/-- the call 56 of the law, row -/
def wO_56 (Z : (Nat → Prop) → State → Heap → Prop) (l : Launch) (D : va_G) (ca : wCA) (a1 a2 a3 a4 a5 : Int32) (sp : List wCell) (μ μm : wMem) (sp1 : List wCell) (μ1 μm1 : wMem) : Prop := ∃ (v : Int32) (rm rm2 : Room), wFt rm rm2 ∧ (∀ q : Nat → Nat, wXi Z l yX0_row (wsW_ yX0_row cX0_row 5 (some .int) hhX0_row) rm D vwCl sp sp1 q ca [.ref (q 0), .int a1, .int a2, .int a3] μ μ1 v) ∧ ∀ qm : Nat → Nat, wMi l yX6_row cX6_row 5 (some .int) rm2 D vwCl spM qm ca [.ref (qm 0), .int a1, .int a2, .int a3] μm (v, μm1)
/-- the call 57 of the law, write -/
def wO_57 (Z : (Nat → Prop) → State → Heap → Prop) (l : Launch) (D : va_G) (ca : wCA) (a1 a2 a3 a4 a5 : Int32) (sp : List wCell) (μ μm : wMem) (sp1 : List wCell) (μ1 μm1 : wMem) : Prop := ∃ (v : Int32) (rm rm2 : Room), wFt rm rm2 ∧ (∀ q : Nat → Nat, wXi Z l yX0_write (wsW_ yX0_write cX0_write 6 (some .int) hhX0_write) rm D vwCl sp sp1 q ca [.ref (q 0), .int a1, .int a2, .long (wLw a3 a4)] μ μ1 v) ∧ ∀ qm : Nat → Nat, wMi l yX6_write cX6_write 5 (some .int) rm2 D vwCl spM qm ca [.ref (qm 0), .int a1, .int a2, .long (wLw a3 a4)] μm (v, μm1)
/-- the call 58 of the law, paste -/
def wO_58 (Z : (Nat → Prop) → State → Heap → Prop) (l : Launch) (D : va_G) (ca : wCA) (a1 a2 a3 a4 a5 : Int32) (sp : List wCell) (μ μm : wMem) (sp1 : List wCell) (μ1 μm1 : wMem) : Prop := ∃ (v : Int32) (rm rm2 : Room), wFt rm rm2 ∧ (∀ q : Nat → Nat, wXi Z l yX0_paste (wsW_ yX0_paste cX0_paste 7 (some .int) hhX0_paste) rm D vwCl sp sp1 q ca [.ref (q 0), .int a1, .int a2, .int a3, .int a4, .int a5] μ μ1 v) ∧ ∀ qm : Nat → Nat, wMi l yX6_paste cX6_paste 7 (some .int) rm2 D vwCl spM qm ca [.ref (qm 0), .int a1, .int a2, .int a3, .int a4, .int a5] μm (v, μm1)
def wOK (Z : (Nat → Prop) → State → Heap → Prop) (l : Launch) (D : va_G) (ca : wCA) (a1 a2 a3 a4 a5 : Int32) (sp : List wCell) (μ μm : wMem) (sp1 : List wCell) (μ1 μm1 : wMem) : Nat → Prop
  | 0 => wO_0 Z l D ca a1 a2 a3 a4 a5 sp μ μm sp1 μ1 μm1
  | 1 => wO_1 Z l D ca a1 a2 a3 a4 a5 sp μ μm sp1 μ1 μm1
  | 2 => wO_2 Z l D ca a1 a2 a3 a4 a5 sp μ μm sp1 μ1 μm1
  | 3 => wO_3 Z l D ca a1 a2 a3 a4 a5 sp μ μm sp1 μ1 μm1
  | 4 => wO_4 Z l D ca a1 a2 a3 a4 a5 sp μ μm sp1 μ1 μm1
  | 5 => wO_5 Z l D ca a1 a2 a3 a4 a5 sp μ μm sp1 μ1 μm1
  | 6 => wO_6 Z l D ca a1 a2 a3 a4 a5 sp μ μm sp1 μ1 μm1
  | 7 => wO_7 Z l D ca a1 a2 a3 a4 a5 sp μ μm sp1 μ1 μm1
  | 8 => wO_8 Z l D ca a1 a2 a3 a4 a5 sp μ μm sp1 μ1 μm1
  | 9 => wO_9 Z l D ca a1 a2 a3 a4 a5 sp μ μm sp1 μ1 μm1
  | 10 => wO_10 Z l D ca a1 a2 a3 a4 a5 sp μ μm sp1 μ1 μm1
  | 11 => wO_11 Z l D ca a1 a2 a3 a4 a5 sp μ μm sp1 μ1 μm1
  | 12 => wO_12 Z l D ca a1 a2 a3 a4 a5 sp μ μm sp1 μ1 μm1
  | 13 => wO_13 Z l D ca a1 a2 a3 a4 a5 sp μ μm sp1 μ1 μm1
  | 14 => wO_14 Z l D ca a1 a2 a3 a4 a5 sp μ μm sp1 μ1 μm1
  | 15 => wO_15 Z l D ca a1 a2 a3 a4 a5 sp μ μm sp1 μ1 μm1
  | 16 => wO_16 Z l D ca a1 a2 a3 a4 a5 sp μ μm sp1 μ1 μm1
  | 17 => wO_17 Z l D ca a1 a2 a3 a4 a5 sp μ μm sp1 μ1 μm1
  | 18 => wO_18 Z l D ca a1 a2 a3 a4 a5 sp μ μm sp1 μ1 μm1
  | 19 => wO_19 Z l D ca a1 a2 a3 a4 a5 sp μ μm sp1 μ1 μm1
  | 20 => wO_20 Z l D ca a1 a2 a3 a4 a5 sp μ μm sp1 μ1 μm1
  | 21 => wO_21 Z l D ca a1 a2 a3 a4 a5 sp μ μm sp1 μ1 μm1
  | 22 => wO_22 Z l D ca a1 a2 a3 a4 a5 sp μ μm sp1 μ1 μm1
  | 23 => wO_23 Z l D ca a1 a2 a3 a4 a5 sp μ μm sp1 μ1 μm1
  | 24 => wO_24 Z l D ca a1 a2 a3 a4 a5 sp μ μm sp1 μ1 μm1
  | 25 => wO_25 Z l D ca a1 a2 a3 a4 a5 sp μ μm sp1 μ1 μm1
  | 26 => wO_26 Z l D ca a1 a2 a3 a4 a5 sp μ μm sp1 μ1 μm1
  | 27 => wO_27 Z l D ca a1 a2 a3 a4 a5 sp μ μm sp1 μ1 μm1
  | 28 => wO_28 Z l D ca a1 a2 a3 a4 a5 sp μ μm sp1 μ1 μm1
  | 29 => wO_29 Z l D ca a1 a2 a3 a4 a5 sp μ μm sp1 μ1 μm1
  | 30 => wO_30 Z l D ca a1 a2 a3 a4 a5 sp μ μm sp1 μ1 μm1
  | 31 => wO_31 Z l D ca a1 a2 a3 a4 a5 sp μ μm sp1 μ1 μm1
  | 32 => wO_32 Z l D ca a1 a2 a3 a4 a5 sp μ μm sp1 μ1 μm1
  | 33 => wO_33 Z l D ca a1 a2 a3 a4 a5 sp μ μm sp1 μ1 μm1
  | 34 => wO_34 Z l D ca a1 a2 a3 a4 a5 sp μ μm sp1 μ1 μm1
  | 35 => wO_35 Z l D ca a1 a2 a3 a4 a5 sp μ μm sp1 μ1 μm1
  | 36 => wO_36 Z l D ca a1 a2 a3 a4 a5 sp μ μm sp1 μ1 μm1
  | 37 => wO_37 Z l D ca a1 a2 a3 a4 a5 sp μ μm sp1 μ1 μm1
  | 38 => wO_38 Z l D ca a1 a2 a3 a4 a5 sp μ μm sp1 μ1 μm1
  | 39 => wO_39 Z l D ca a1 a2 a3 a4 a5 sp μ μm sp1 μ1 μm1
  | 40 => wO_40 Z l D ca a1 a2 a3 a4 a5 sp μ μm sp1 μ1 μm1
  | 41 => wO_41 Z l D ca a1 a2 a3 a4 a5 sp μ μm sp1 μ1 μm1
  | 42 => wO_42 Z l D ca a1 a2 a3 a4 a5 sp μ μm sp1 μ1 μm1
  | 43 => wO_43 Z l D ca a1 a2 a3 a4 a5 sp μ μm sp1 μ1 μm1
  | 44 => wO_44 Z l D ca a1 a2 a3 a4 a5 sp μ μm sp1 μ1 μm1
  | 45 => wO_45 Z l D ca a1 a2 a3 a4 a5 sp μ μm sp1 μ1 μm1
  | 46 => wO_46 Z l D ca a1 a2 a3 a4 a5 sp μ μm sp1 μ1 μm1
  | 47 => wO_47 Z l D ca a1 a2 a3 a4 a5 sp μ μm sp1 μ1 μm1
  | 48 => wO_48 Z l D ca a1 a2 a3 a4 a5 sp μ μm sp1 μ1 μm1
  | 49 => wO_49 Z l D ca a1 a2 a3 a4 a5 sp μ μm sp1 μ1 μm1
  | 50 => wO_50 Z l D ca a1 a2 a3 a4 a5 sp μ μm sp1 μ1 μm1
  | 51 => wO_51 Z l D ca a1 a2 a3 a4 a5 sp μ μm sp1 μ1 μm1
  | 52 => wO_52 Z l D ca a1 a2 a3 a4 a5 sp μ μm sp1 μ1 μm1
  | 53 => wO_53 Z l D ca a1 a2 a3 a4 a5 sp μ μm sp1 μ1 μm1
  | 54 => wO_54 Z l D ca a1 a2 a3 a4 a5 sp μ μm sp1 μ1 μm1
  | 55 => wO_55 Z l D ca a1 a2 a3 a4 a5 sp μ μm sp1 μ1 μm1
  | 56 => wO_56 Z l D ca a1 a2 a3 a4 a5 sp μ μm sp1 μ1 μm1
  | 57 => wO_57 Z l D ca a1 a2 a3 a4 a5 sp μ μm sp1 μ1 μm1
  | 58 => wO_58 Z l D ca a1 a2 a3 a4 a5 sp μ μm sp1 μ1 μm1
  | _ => sp1 = sp ∧ μ1 = μ ∧ μm1 = μm
/-- which call: of an int of the script -/
def wKs (v : Int32) : Nat := (v.toBitVec &&& 63#32).toNat
theorem wKs_int (v : Int32) : (v &&& 63).toInt = (wKs v : Int) := by
  have h : wKs v < 64 := by
    unfold wKs
    rw [BitVec.toNat_and]
    exact Nat.lt_of_le_of_lt (Nat.and_le_right) (by decide)
  show (v.toBitVec &&& 63#32).toInt = _
  rw [BitVec.toInt_eq_toNat_of_lt (show 2 * wKs v < 2 ^ 32 by omega)]
  rfl
theorem wCmp {L i : Nat} (hL : L ≤ 384) (hi : i ≤ 400) (h : ¬ (Int32.ofNat L - 6 < nI i)) : i + 6 ≤ L := by
  have h1 : (nI i).toInt = (i : Int) := nI_toInt (by omega)
  have h2 : (Int32.ofNat L).toInt = (L : Int) := nI_toInt (n := L) (by omega)
  have h3 : (Int32.ofNat L - 6).toInt = (L : Int) - 6 := by
    rw [Int32.toInt_sub, h2]
    show ((L : Int) - 6).bmod (2 ^ 32) = _
    exact Int.bmod_eq_of_le (by omega) (by omega)
  rw [Int32.lt_iff_toInt_lt, h1, h3] at h
  omega
/-- what was written was new, or a cell without slots -/
theorem w_forget {p : Program} {l : Launch} {e : Env} {R : Room} {s : State} {m : MethodId} {args : Array Value} {below : List Frame} {meth : Method} {c : Code} {H : Heap} {locs : List Loc} {cells slots : Nat} {Q : State → Prop} {g : JFrame} (hf : ∀ y ∈ locs, s.heap.size ≤ y.base ∨ ∃ cell : Cell, s.heap[y.base]? = some cell ∧ cell.slots.size = 0) (kk : W p l e R s m args below meth c H [] cells slots Q g) : W p l e R s m args below meth c H locs cells slots Q g := fun T hT X => by
  refine kk T hT { X with same := ?_ }
  obtain ⟨h0, h1, h2, h3, h4, h5⟩ := X.same
  refine ⟨h0, h1, h2, h3, h4, fun a cl ha => ?_⟩
  obtain ⟨c', g1, g2, g3, g4⟩ := h5 a cl ha
  refine ⟨c', g1, g2, g3, fun i _ => ?_⟩
  by_cases hin : (⟨a, i⟩ : Loc) ∈ locs
  · rcases hf _ hin with h | ⟨cell, hc, hz⟩
    · exact absurd (Array.getElem?_eq_some_iff.mp ha).1 (Nat.not_lt.mpr h)
    · have e1 : cell = cl := Option.some.inj (hc.symm.trans ha)
      subst e1
      rw [Array.getElem?_eq_none (xs := c'.slots) (by rw [g3, hz]; exact Nat.zero_le i), Array.getElem?_eq_none (xs := cell.slots) (by rw [hz]; exact Nat.zero_le i)]
  · exact g4 i hin
/-- behind a call: on to the next -/
theorem wl_next {p : Program} {l : Launch} {e : Env} {s : State} {m : MethodId} {below : List Frame} {meth : Method} {c : Code} {b : Nat} {D : va_G} {ca : wCA} {A : Nat → Prop} {Z : (Nat → Prop) → State → Heap → Prop} {kc ks : Nat} {I : Heap → List Loc → Prop} {x0 m0 i : Nat} (K : wLc p s m meth c b D ca A Z) (k : wLJ p l e s m b below meth c I kc ks 18 (wLv b x0 m0 (nI (i + 6))) []) : wLJ p l e s m b below meth c I kc ks 1813 (wLv b x0 m0 (nI i)) [] := by
  refine wl_iinc (v := nI (i + 6)) (lv' := wLv b x0 m0 (nI (i + 6))) 1813 K dL_law_1813 0 rfl ?_ (by decide) rfl ?_
  · show nI i + nI 6 = _
    exact nI_add i 6
  · exact wl_goto (tgt := 18) 1816 K dL_law_1816 (by decide) k
set_option maxHeartbeats 4000000 in
theorem wl_case {p : Program} {l : Launch} {e : Env} {s : State} {m : MethodId} {below : List Frame} {meth : Method} {c : Code} {b : Nat} {D : va_G} {ca : wCA} {A : Nat → Prop} {Z : (Nat → Prop) → State → Heap → Prop} {sp : List wCell} {q qm : Nat → Nat} {μ μm : wMem} {L i kc ks : Nat} {xs : Nat → Int32} {sp1 : List wCell} {μ1 μm1 : wMem} {x : Int32} {fs : List (Nat × Nat)} (K : wLc p s m meth c b D ca A Z) (hX : wLs b L xs s A) (hi : i + 5 < L) (hs : sp[0]? = some (.inl (0, fs))) (hk1 : kc + 64 ≤ 1131106) (hk2 : ks + 1024 ≤ 5695108) (kn : ∀ u : Nat → Nat, ∀ kc1 ks1 : Nat, kc1 ≤ kc + 64 → ks1 ≤ ks + 1024 → wLJ p l e s m b below meth c (wLI D ca A s sp1 u μ1 qm μm1) kc1 ks1 18 (wLv b (u 0) (qm 0) (nI (i + 6))) []) : ∀ (k : Nat), x.toInt = (k : Int) → wOK Z l D ca (xs (i + 1)) (xs (i + 2)) (xs (i + 3)) (xs (i + 4)) (xs (i + 5)) sp μ μm sp1 μ1 μm1 k → wLJ p l e s m b below meth c (wLI D ca A s sp q μ qm μm) kc ks 33 (wLv b (q 0) (qm 0) (nI i)) [.int x]
    | 0, hx, ho => by
      obtain ⟨v, rm, rm2, ⟨f1, f2, f3, f4, f5, f6⟩, hM, hM2⟩ := ho
      refine wl_table (tgt := 284) 33 K dL_law_33 (by rw [hx]; decide) (by rw [hx]; decide) (by rw [hx]; rfl) (by decide) ?_
      exact wl_c0 K hX (by omega) (hM q) (hM2 qm) hs ⟨by show _ ≤ 8192; omega, by show _ ≤ 104096; omega⟩ ⟨by show _ ≤ 1131106; omega, by show _ ≤ 5695108; omega⟩ ⟨by show _ ≤ 8192; omega, by show _ ≤ 104096; omega⟩ ⟨by show _ ≤ 1131106; omega, by show _ ≤ 5695108; omega⟩ (fun u hu0 => wl_next K (by rw [← hu0]; exact kn u _ _ (by omega) (by omega)))
    | 1, hx, ho => by
      obtain ⟨v, rm, rm2, ⟨f1, f2, f3, f4, f5, f6⟩, hM, hM2⟩ := ho
      refine wl_table (tgt := 347) 33 K dL_law_33 (by rw [hx]; decide) (by rw [hx]; decide) (by rw [hx]; rfl) (by decide) ?_
      exact wl_c1 K hX (by omega) (hM q) (hM2 qm) hs ⟨by show _ ≤ 8192; omega, by show _ ≤ 104096; omega⟩ ⟨by show _ ≤ 1131106; omega, by show _ ≤ 5695108; omega⟩ ⟨by show _ ≤ 8192; omega, by show _ ≤ 104096; omega⟩ ⟨by show _ ≤ 1131106; omega, by show _ ≤ 5695108; omega⟩ (fun u hu0 => wl_next K (by rw [← hu0]; exact kn u _ _ (by omega) (by omega)))
    | 2, hx, ho => by
      obtain ⟨v, rm, rm2, ⟨f1, f2, f3, f4, f5, f6⟩, hM, hM2⟩ := ho
      refine wl_table (tgt := 370) 33 K dL_law_33 (by rw [hx]; decide) (by rw [hx]; decide) (by rw [hx]; rfl) (by decide) ?_
      exact wl_c2 K hX (by omega) (hM q) (hM2 qm) hs ⟨by show _ ≤ 8192; omega, by show _ ≤ 104096; omega⟩ ⟨by show _ ≤ 1131106; omega, by show _ ≤ 5695108; omega⟩ ⟨by show _ ≤ 8192; omega, by show _ ≤ 104096; omega⟩ ⟨by show _ ≤ 1131106; omega, by show _ ≤ 5695108; omega⟩ (fun u hu0 => wl_next K (by rw [← hu0]; exact kn u _ _ (by omega) (by omega)))
    | 3, hx, ho => by
      obtain ⟨v, rm, rm2, ⟨f1, f2, f3, f4, f5, f6⟩, hM, hM2⟩ := ho
      refine wl_table (tgt := 383) 33 K dL_law_33 (by rw [hx]; decide) (by rw [hx]; decide) (by rw [hx]; rfl) (by decide) ?_
      exact wl_c3 K hX (by omega) (hM q) (hM2 qm) hs ⟨by show _ ≤ 8192; omega, by show _ ≤ 104096; omega⟩ ⟨by show _ ≤ 1131106; omega, by show _ ≤ 5695108; omega⟩ ⟨by show _ ≤ 8192; omega, by show _ ≤ 104096; omega⟩ ⟨by show _ ≤ 1131106; omega, by show _ ≤ 5695108; omega⟩ (fun u hu0 => wl_next K (by rw [← hu0]; exact kn u _ _ (by omega) (by omega)))
    | 4, hx, ho => by
      obtain ⟨v, rm, rm2, ⟨f1, f2, f3, f4, f5, f6⟩, hM, hM2⟩ := ho
      refine wl_table (tgt := 406) 33 K dL_law_33 (by rw [hx]; decide) (by rw [hx]; decide) (by rw [hx]; rfl) (by decide) ?_
      exact wl_c4 K hX (by omega) (hM q) (hM2 qm) hs ⟨by show _ ≤ 8192; omega, by show _ ≤ 104096; omega⟩ ⟨by show _ ≤ 1131106; omega, by show _ ≤ 5695108; omega⟩ ⟨by show _ ≤ 8192; omega, by show _ ≤ 104096; omega⟩ ⟨by show _ ≤ 1131106; omega, by show _ ≤ 5695108; omega⟩ (fun u hu0 => wl_next K (by rw [← hu0]; exact kn u _ _ (by omega) (by omega)))
    | 5, hx, ho => by
      obtain ⟨v, rm, rm2, ⟨f1, f2, f3, f4, f5, f6⟩, hM, hM2⟩ := ho
      refine wl_table (tgt := 439) 33 K dL_law_33 (by rw [hx]; decide) (by rw [hx]; decide) (by rw [hx]; rfl) (by decide) ?_
      exact wl_c5 K hX (by omega) (hM q) (hM2 qm) hs ⟨by show _ ≤ 8192; omega, by show _ ≤ 104096; omega⟩ ⟨by show _ ≤ 1131106; omega, by show _ ≤ 5695108; omega⟩ ⟨by show _ ≤ 8192; omega, by show _ ≤ 104096; omega⟩ ⟨by show _ ≤ 1131106; omega, by show _ ≤ 5695108; omega⟩ (fun u hu0 => wl_next K (by rw [← hu0]; exact kn u _ _ (by omega) (by omega)))
    | 6, hx, ho => by
      obtain ⟨v, rm, rm2, ⟨f1, f2, f3, f4, f5, f6⟩, hM, hM2⟩ := ho
      refine wl_table (tgt := 472) 33 K dL_law_33 (by rw [hx]; decide) (by rw [hx]; decide) (by rw [hx]; rfl) (by decide) ?_
      exact wl_c6 K hX (by omega) (hM q) (hM2 qm) hs ⟨by show _ ≤ 8192; omega, by show _ ≤ 104096; omega⟩ ⟨by show _ ≤ 1131106; omega, by show _ ≤ 5695108; omega⟩ ⟨by show _ ≤ 8192; omega, by show _ ≤ 104096; omega⟩ ⟨by show _ ≤ 1131106; omega, by show _ ≤ 5695108; omega⟩ (fun u hu0 => wl_next K (by rw [← hu0]; exact kn u _ _ (by omega) (by omega)))
    | 7, hx, ho => by
      obtain ⟨v, rm, rm2, ⟨f1, f2, f3, f4, f5, f6⟩, hM, hM2⟩ := ho
      refine wl_table (tgt := 505) 33 K dL_law_33 (by rw [hx]; decide) (by rw [hx]; decide) (by rw [hx]; rfl) (by decide) ?_
      exact wl_c7 K hX (by omega) (hM q) (hM2 qm) hs ⟨by show _ ≤ 8192; omega, by show _ ≤ 104096; omega⟩ ⟨by show _ ≤ 1131106; omega, by show _ ≤ 5695108; omega⟩ ⟨by show _ ≤ 8192; omega, by show _ ≤ 104096; omega⟩ ⟨by show _ ≤ 1131106; omega, by show _ ≤ 5695108; omega⟩ (fun u hu0 => wl_next K (by rw [← hu0]; exact kn u _ _ (by omega) (by omega)))
    | 8, hx, ho => by
      obtain ⟨v, rm, rm2, ⟨f1, f2, f3, f4, f5, f6⟩, hM, hM2⟩ := ho
      refine wl_table (tgt := 538) 33 K dL_law_33 (by rw [hx]; decide) (by rw [hx]; decide) (by rw [hx]; rfl) (by decide) ?_
      exact wl_c8 K hX (by omega) (hM q) (hM2 qm) hs ⟨by show _ ≤ 8192; omega, by show _ ≤ 104096; omega⟩ ⟨by show _ ≤ 1131106; omega, by show _ ≤ 5695108; omega⟩ ⟨by show _ ≤ 8192; omega, by show _ ≤ 104096; omega⟩ ⟨by show _ ≤ 1131106; omega, by show _ ≤ 5695108; omega⟩ (fun u hu0 => wl_next K (by rw [← hu0]; exact kn u _ _ (by omega) (by omega)))
    | 9, hx, ho => by
      obtain ⟨v, rm, rm2, ⟨f1, f2, f3, f4, f5, f6⟩, hM, hM2⟩ := ho
      refine wl_table (tgt := 561) 33 K dL_law_33 (by rw [hx]; decide) (by rw [hx]; decide) (by rw [hx]; rfl) (by decide) ?_
      exact wl_c9 K hX (by omega) (hM q) (hM2 qm) hs ⟨by show _ ≤ 8192; omega, by show _ ≤ 104096; omega⟩ ⟨by show _ ≤ 1131106; omega, by show _ ≤ 5695108; omega⟩ ⟨by show _ ≤ 8192; omega, by show _ ≤ 104096; omega⟩ ⟨by show _ ≤ 1131106; omega, by show _ ≤ 5695108; omega⟩ (fun u hu0 => wl_next K (by rw [← hu0]; exact kn u _ _ (by omega) (by omega)))
    | 10, hx, ho => by
      obtain ⟨v, rm, rm2, ⟨f1, f2, f3, f4, f5, f6⟩, hM, hM2⟩ := ho
      refine wl_table (tgt := 584) 33 K dL_law_33 (by rw [hx]; decide) (by rw [hx]; decide) (by rw [hx]; rfl) (by decide) ?_
      exact wl_c10 K hX (by omega) (hM q) (hM2 qm) hs ⟨by show _ ≤ 8192; omega, by show _ ≤ 104096; omega⟩ ⟨by show _ ≤ 1131106; omega, by show _ ≤ 5695108; omega⟩ ⟨by show _ ≤ 8192; omega, by show _ ≤ 104096; omega⟩ ⟨by show _ ≤ 1131106; omega, by show _ ≤ 5695108; omega⟩ (fun u hu0 => wl_next K (by rw [← hu0]; exact kn u _ _ (by omega) (by omega)))
    | 11, hx, ho => by
      obtain ⟨v, rm, rm2, ⟨f1, f2, f3, f4, f5, f6⟩, hM, hM2⟩ := ho
      refine wl_table (tgt := 597) 33 K dL_law_33 (by rw [hx]; decide) (by rw [hx]; decide) (by rw [hx]; rfl) (by decide) ?_
      exact wl_c11 K hX (by omega) (hM q) (hM2 qm) hs ⟨by show _ ≤ 8192; omega, by show _ ≤ 104096; omega⟩ ⟨by show _ ≤ 1131106; omega, by show _ ≤ 5695108; omega⟩ ⟨by show _ ≤ 8192; omega, by show _ ≤ 104096; omega⟩ ⟨by show _ ≤ 1131106; omega, by show _ ≤ 5695108; omega⟩ (fun u hu0 => wl_next K (by rw [← hu0]; exact kn u _ _ (by omega) (by omega)))
    | 12, hx, ho => by
      obtain ⟨v, rm, rm2, ⟨f1, f2, f3, f4, f5, f6⟩, hM, hM2⟩ := ho
      refine wl_table (tgt := 640) 33 K dL_law_33 (by rw [hx]; decide) (by rw [hx]; decide) (by rw [hx]; rfl) (by decide) ?_
      exact wl_c12 K hX (by omega) (hM q) (hM2 qm) hs ⟨by show _ ≤ 8192; omega, by show _ ≤ 104096; omega⟩ ⟨by show _ ≤ 1131106; omega, by show _ ≤ 5695108; omega⟩ ⟨by show _ ≤ 8192; omega, by show _ ≤ 104096; omega⟩ ⟨by show _ ≤ 1131106; omega, by show _ ≤ 5695108; omega⟩ (fun u hu0 => wl_next K (by rw [← hu0]; exact kn u _ _ (by omega) (by omega)))
    | 13, hx, ho => by
      obtain ⟨v, rm, rm2, ⟨f1, f2, f3, f4, f5, f6⟩, hM, hM2⟩ := ho
      refine wl_table (tgt := 683) 33 K dL_law_33 (by rw [hx]; decide) (by rw [hx]; decide) (by rw [hx]; rfl) (by decide) ?_
      exact wl_c13 K hX (by omega) (hM q) (hM2 qm) hs ⟨by show _ ≤ 8192; omega, by show _ ≤ 104096; omega⟩ ⟨by show _ ≤ 1131106; omega, by show _ ≤ 5695108; omega⟩ ⟨by show _ ≤ 8192; omega, by show _ ≤ 104096; omega⟩ ⟨by show _ ≤ 1131106; omega, by show _ ≤ 5695108; omega⟩ (fun u hu0 => wl_next K (by rw [← hu0]; exact kn u _ _ (by omega) (by omega)))
    | 14, hx, ho => by
      obtain ⟨v, rm, rm2, ⟨f1, f2, f3, f4, f5, f6⟩, hM, hM2⟩ := ho
      refine wl_table (tgt := 696) 33 K dL_law_33 (by rw [hx]; decide) (by rw [hx]; decide) (by rw [hx]; rfl) (by decide) ?_
      exact wl_c14 K hX (by omega) (hM q) (hM2 qm) hs ⟨by show _ ≤ 8192; omega, by show _ ≤ 104096; omega⟩ ⟨by show _ ≤ 1131106; omega, by show _ ≤ 5695108; omega⟩ ⟨by show _ ≤ 8192; omega, by show _ ≤ 104096; omega⟩ ⟨by show _ ≤ 1131106; omega, by show _ ≤ 5695108; omega⟩ (fun u hu0 => wl_next K (by rw [← hu0]; exact kn u _ _ (by omega) (by omega)))
    | 15, hx, ho => by
      obtain ⟨v, rm, rm2, ⟨f1, f2, f3, f4, f5, f6⟩, hM, hM2⟩ := ho
      refine wl_table (tgt := 709) 33 K dL_law_33 (by rw [hx]; decide) (by rw [hx]; decide) (by rw [hx]; rfl) (by decide) ?_
      exact wl_c15 K hX (by omega) (hM q) (hM2 qm) hs ⟨by show _ ≤ 8192; omega, by show _ ≤ 104096; omega⟩ ⟨by show _ ≤ 1131106; omega, by show _ ≤ 5695108; omega⟩ ⟨by show _ ≤ 8192; omega, by show _ ≤ 104096; omega⟩ ⟨by show _ ≤ 1131106; omega, by show _ ≤ 5695108; omega⟩ (fun u hu0 => wl_next K (by rw [← hu0]; exact kn u _ _ (by omega) (by omega)))
    | 16, hx, ho => by
      obtain ⟨v, rm, rm2, ⟨f1, f2, f3, f4, f5, f6⟩, hM, hM2⟩ := ho
      refine wl_table (tgt := 722) 33 K dL_law_33 (by rw [hx]; decide) (by rw [hx]; decide) (by rw [hx]; rfl) (by decide) ?_
      exact wl_c16 K hX (by omega) (hM q) (hM2 qm) hs ⟨by show _ ≤ 8192; omega, by show _ ≤ 104096; omega⟩ ⟨by show _ ≤ 1131106; omega, by show _ ≤ 5695108; omega⟩ ⟨by show _ ≤ 8192; omega, by show _ ≤ 104096; omega⟩ ⟨by show _ ≤ 1131106; omega, by show _ ≤ 5695108; omega⟩ (fun u hu0 => wl_next K (by rw [← hu0]; exact kn u _ _ (by omega) (by omega)))
    | 17, hx, ho => by
      obtain ⟨v, rm, rm2, ⟨f1, f2, f3, f4, f5, f6⟩, hM, hM2⟩ := ho
      refine wl_table (tgt := 745) 33 K dL_law_33 (by rw [hx]; decide) (by rw [hx]; decide) (by rw [hx]; rfl) (by decide) ?_
      exact wl_c17 K hX (by omega) (hM q) (hM2 qm) hs ⟨by show _ ≤ 8192; omega, by show _ ≤ 104096; omega⟩ ⟨by show _ ≤ 1131106; omega, by show _ ≤ 5695108; omega⟩ ⟨by show _ ≤ 8192; omega, by show _ ≤ 104096; omega⟩ ⟨by show _ ≤ 1131106; omega, by show _ ≤ 5695108; omega⟩ (fun u hu0 => wl_next K (by rw [← hu0]; exact kn u _ _ (by omega) (by omega)))
    | 18, hx, ho => by
      obtain ⟨v, rm, rm2, ⟨f1, f2, f3, f4, f5, f6⟩, hM, hM2⟩ := ho
      refine wl_table (tgt := 758) 33 K dL_law_33 (by rw [hx]; decide) (by rw [hx]; decide) (by rw [hx]; rfl) (by decide) ?_
      exact wl_c18 K hX (by omega) (hM q) (hM2 qm) hs ⟨by show _ ≤ 8192; omega, by show _ ≤ 104096; omega⟩ ⟨by show _ ≤ 1131106; omega, by show _ ≤ 5695108; omega⟩ ⟨by show _ ≤ 8192; omega, by show _ ≤ 104096; omega⟩ ⟨by show _ ≤ 1131106; omega, by show _ ≤ 5695108; omega⟩ (fun u hu0 => wl_next K (by rw [← hu0]; exact kn u _ _ (by omega) (by omega)))
    | 19, hx, ho => by
      obtain ⟨v, rm, rm2, ⟨f1, f2, f3, f4, f5, f6⟩, hM, hM2⟩ := ho
      refine wl_table (tgt := 781) 33 K dL_law_33 (by rw [hx]; decide) (by rw [hx]; decide) (by rw [hx]; rfl) (by decide) ?_
      exact wl_c19 K hX (by omega) (hM q) (hM2 qm) hs ⟨by show _ ≤ 8192; omega, by show _ ≤ 104096; omega⟩ ⟨by show _ ≤ 1131106; omega, by show _ ≤ 5695108; omega⟩ ⟨by show _ ≤ 8192; omega, by show _ ≤ 104096; omega⟩ ⟨by show _ ≤ 1131106; omega, by show _ ≤ 5695108; omega⟩ (fun u hu0 => wl_next K (by rw [← hu0]; exact kn u _ _ (by omega) (by omega)))
    | 20, hx, ho => by
      obtain ⟨v, rm, rm2, ⟨f1, f2, f3, f4, f5, f6⟩, hM, hM2⟩ := ho
      refine wl_table (tgt := 794) 33 K dL_law_33 (by rw [hx]; decide) (by rw [hx]; decide) (by rw [hx]; rfl) (by decide) ?_
      exact wl_c20 K hX (by omega) (hM q) (hM2 qm) hs ⟨by show _ ≤ 8192; omega, by show _ ≤ 104096; omega⟩ ⟨by show _ ≤ 1131106; omega, by show _ ≤ 5695108; omega⟩ ⟨by show _ ≤ 8192; omega, by show _ ≤ 104096; omega⟩ ⟨by show _ ≤ 1131106; omega, by show _ ≤ 5695108; omega⟩ (fun u hu0 => wl_next K (by rw [← hu0]; exact kn u _ _ (by omega) (by omega)))
    | 21, hx, ho => by
      obtain ⟨v, rm, rm2, ⟨f1, f2, f3, f4, f5, f6⟩, hM, hM2⟩ := ho
      refine wl_table (tgt := 817) 33 K dL_law_33 (by rw [hx]; decide) (by rw [hx]; decide) (by rw [hx]; rfl) (by decide) ?_
      exact wl_c21 K hX (by omega) (hM q) (hM2 qm) hs ⟨by show _ ≤ 8192; omega, by show _ ≤ 104096; omega⟩ ⟨by show _ ≤ 1131106; omega, by show _ ≤ 5695108; omega⟩ ⟨by show _ ≤ 8192; omega, by show _ ≤ 104096; omega⟩ ⟨by show _ ≤ 1131106; omega, by show _ ≤ 5695108; omega⟩ (fun u hu0 => wl_next K (by rw [← hu0]; exact kn u _ _ (by omega) (by omega)))
    | 22, hx, ho => by
      obtain ⟨v, rm, rm2, ⟨f1, f2, f3, f4, f5, f6⟩, hM, hM2⟩ := ho
      refine wl_table (tgt := 830) 33 K dL_law_33 (by rw [hx]; decide) (by rw [hx]; decide) (by rw [hx]; rfl) (by decide) ?_
      exact wl_c22 K hX (by omega) (hM q) (hM2 qm) hs ⟨by show _ ≤ 8192; omega, by show _ ≤ 104096; omega⟩ ⟨by show _ ≤ 1131106; omega, by show _ ≤ 5695108; omega⟩ ⟨by show _ ≤ 8192; omega, by show _ ≤ 104096; omega⟩ ⟨by show _ ≤ 1131106; omega, by show _ ≤ 5695108; omega⟩ (fun u hu0 => wl_next K (by rw [← hu0]; exact kn u _ _ (by omega) (by omega)))
    | 23, hx, ho => by
      obtain ⟨v, rm, rm2, ⟨f1, f2, f3, f4, f5, f6⟩, hM, hM2⟩ := ho
      refine wl_table (tgt := 853) 33 K dL_law_33 (by rw [hx]; decide) (by rw [hx]; decide) (by rw [hx]; rfl) (by decide) ?_
      exact wl_c23 K hX (by omega) (hM q) (hM2 qm) hs ⟨by show _ ≤ 8192; omega, by show _ ≤ 104096; omega⟩ ⟨by show _ ≤ 1131106; omega, by show _ ≤ 5695108; omega⟩ ⟨by show _ ≤ 8192; omega, by show _ ≤ 104096; omega⟩ ⟨by show _ ≤ 1131106; omega, by show _ ≤ 5695108; omega⟩ (fun u hu0 => wl_next K (by rw [← hu0]; exact kn u _ _ (by omega) (by omega)))
    | 24, hx, ho => by
      obtain ⟨v, rm, rm2, ⟨f1, f2, f3, f4, f5, f6⟩, hM, hM2⟩ := ho
      refine wl_table (tgt := 866) 33 K dL_law_33 (by rw [hx]; decide) (by rw [hx]; decide) (by rw [hx]; rfl) (by decide) ?_
      exact wl_c24 K hX (by omega) (hM q) (hM2 qm) hs ⟨by show _ ≤ 8192; omega, by show _ ≤ 104096; omega⟩ ⟨by show _ ≤ 1131106; omega, by show _ ≤ 5695108; omega⟩ ⟨by show _ ≤ 8192; omega, by show _ ≤ 104096; omega⟩ ⟨by show _ ≤ 1131106; omega, by show _ ≤ 5695108; omega⟩ (fun u hu0 => wl_next K (by rw [← hu0]; exact kn u _ _ (by omega) (by omega)))
    | 25, hx, ho => by
      obtain ⟨v, rm, rm2, ⟨f1, f2, f3, f4, f5, f6⟩, hM, hM2⟩ := ho
      refine wl_table (tgt := 879) 33 K dL_law_33 (by rw [hx]; decide) (by rw [hx]; decide) (by rw [hx]; rfl) (by decide) ?_
      exact wl_c25 K hX (by omega) (hM q) (hM2 qm) hs ⟨by show _ ≤ 8192; omega, by show _ ≤ 104096; omega⟩ ⟨by show _ ≤ 1131106; omega, by show _ ≤ 5695108; omega⟩ ⟨by show _ ≤ 8192; omega, by show _ ≤ 104096; omega⟩ ⟨by show _ ≤ 1131106; omega, by show _ ≤ 5695108; omega⟩ (fun u hu0 => wl_next K (by rw [← hu0]; exact kn u _ _ (by omega) (by omega)))
    | 26, hx, ho => by
      obtain ⟨v, rm, rm2, ⟨f1, f2, f3, f4, f5, f6⟩, hM, hM2⟩ := ho
      refine wl_table (tgt := 892) 33 K dL_law_33 (by rw [hx]; decide) (by rw [hx]; decide) (by rw [hx]; rfl) (by decide) ?_
      exact wl_c26 K hX (by omega) (hM q) (hM2 qm) hs ⟨by show _ ≤ 8192; omega, by show _ ≤ 104096; omega⟩ ⟨by show _ ≤ 1131106; omega, by show _ ≤ 5695108; omega⟩ ⟨by show _ ≤ 8192; omega, by show _ ≤ 104096; omega⟩ ⟨by show _ ≤ 1131106; omega, by show _ ≤ 5695108; omega⟩ (fun u hu0 => wl_next K (by rw [← hu0]; exact kn u _ _ (by omega) (by omega)))
    | 27, hx, ho => by
      obtain ⟨v, rm, rm2, ⟨f1, f2, f3, f4, f5, f6⟩, hM, hM2⟩ := ho
      refine wl_table (tgt := 916) 33 K dL_law_33 (by rw [hx]; decide) (by rw [hx]; decide) (by rw [hx]; rfl) (by decide) ?_
      exact wl_c27 K hX (by omega) (hM q) (hM2 qm) hs ⟨by show _ ≤ 8192; omega, by show _ ≤ 104096; omega⟩ ⟨by show _ ≤ 1131106; omega, by show _ ≤ 5695108; omega⟩ ⟨by show _ ≤ 8192; omega, by show _ ≤ 104096; omega⟩ ⟨by show _ ≤ 1131106; omega, by show _ ≤ 5695108; omega⟩ (fun u hu0 => wl_next K (by rw [← hu0]; exact kn u _ _ (by omega) (by omega)))
    | 28, hx, ho => by
      obtain ⟨v, rm, rm2, ⟨f1, f2, f3, f4, f5, f6⟩, hM, hM2⟩ := ho
      refine wl_table (tgt := 929) 33 K dL_law_33 (by rw [hx]; decide) (by rw [hx]; decide) (by rw [hx]; rfl) (by decide) ?_
      exact wl_c28 K hX (by omega) (hM q) (hM2 qm) hs ⟨by show _ ≤ 8192; omega, by show _ ≤ 104096; omega⟩ ⟨by show _ ≤ 1131106; omega, by show _ ≤ 5695108; omega⟩ ⟨by show _ ≤ 8192; omega, by show _ ≤ 104096; omega⟩ ⟨by show _ ≤ 1131106; omega, by show _ ≤ 5695108; omega⟩ (fun u hu0 => wl_next K (by rw [← hu0]; exact kn u _ _ (by omega) (by omega)))
    | 29, hx, ho => by
      obtain ⟨v, rm, rm2, ⟨f1, f2, f3, f4, f5, f6⟩, hM, hM2⟩ := ho
      refine wl_table (tgt := 942) 33 K dL_law_33 (by rw [hx]; decide) (by rw [hx]; decide) (by rw [hx]; rfl) (by decide) ?_
      exact wl_c29 K hX (by omega) (hM q) (hM2 qm) hs ⟨by show _ ≤ 8192; omega, by show _ ≤ 104096; omega⟩ ⟨by show _ ≤ 1131106; omega, by show _ ≤ 5695108; omega⟩ ⟨by show _ ≤ 8192; omega, by show _ ≤ 104096; omega⟩ ⟨by show _ ≤ 1131106; omega, by show _ ≤ 5695108; omega⟩ (fun u hu0 => wl_next K (by rw [← hu0]; exact kn u _ _ (by omega) (by omega)))
    | 30, hx, ho => by
      obtain ⟨v, rm, rm2, ⟨f1, f2, f3, f4, f5, f6⟩, hM, hM2⟩ := ho
      refine wl_table (tgt := 965) 33 K dL_law_33 (by rw [hx]; decide) (by rw [hx]; decide) (by rw [hx]; rfl) (by decide) ?_
      exact wl_c30 K hX (by omega) (hM q) (hM2 qm) hs ⟨by show _ ≤ 8192; omega, by show _ ≤ 104096; omega⟩ ⟨by show _ ≤ 1131106; omega, by show _ ≤ 5695108; omega⟩ ⟨by show _ ≤ 8192; omega, by show _ ≤ 104096; omega⟩ ⟨by show _ ≤ 1131106; omega, by show _ ≤ 5695108; omega⟩ (fun u hu0 => wl_next K (by rw [← hu0]; exact kn u _ _ (by omega) (by omega)))
    | 31, hx, ho => by
      obtain ⟨v, rm, rm2, ⟨f1, f2, f3, f4, f5, f6⟩, hM, hM2⟩ := ho
      refine wl_table (tgt := 988) 33 K dL_law_33 (by rw [hx]; decide) (by rw [hx]; decide) (by rw [hx]; rfl) (by decide) ?_
      exact wl_c31 K hX (by omega) (hM q) (hM2 qm) hs ⟨by show _ ≤ 8192; omega, by show _ ≤ 104096; omega⟩ ⟨by show _ ≤ 1131106; omega, by show _ ≤ 5695108; omega⟩ ⟨by show _ ≤ 8192; omega, by show _ ≤ 104096; omega⟩ ⟨by show _ ≤ 1131106; omega, by show _ ≤ 5695108; omega⟩ (fun u hu0 => wl_next K (by rw [← hu0]; exact kn u _ _ (by omega) (by omega)))
    | 32, hx, ho => by
      obtain ⟨v, rm, rm2, ⟨f1, f2, f3, f4, f5, f6⟩, hM, hM2⟩ := ho
      refine wl_table (tgt := 1001) 33 K dL_law_33 (by rw [hx]; decide) (by rw [hx]; decide) (by rw [hx]; rfl) (by decide) ?_
      exact wl_c32 K hX (by omega) (hM q) (hM2 qm) hs ⟨by show _ ≤ 8192; omega, by show _ ≤ 104096; omega⟩ ⟨by show _ ≤ 1131106; omega, by show _ ≤ 5695108; omega⟩ ⟨by show _ ≤ 8192; omega, by show _ ≤ 104096; omega⟩ ⟨by show _ ≤ 1131106; omega, by show _ ≤ 5695108; omega⟩ (fun u hu0 => wl_next K (by rw [← hu0]; exact kn u _ _ (by omega) (by omega)))
    | 33, hx, ho => by
      obtain ⟨v, rm, rm2, ⟨f1, f2, f3, f4, f5, f6⟩, hM, hM2⟩ := ho
      refine wl_table (tgt := 1024) 33 K dL_law_33 (by rw [hx]; decide) (by rw [hx]; decide) (by rw [hx]; rfl) (by decide) ?_
      exact wl_c33 K hX (by omega) (hM q) (hM2 qm) hs ⟨by show _ ≤ 8192; omega, by show _ ≤ 104096; omega⟩ ⟨by show _ ≤ 1131106; omega, by show _ ≤ 5695108; omega⟩ ⟨by show _ ≤ 8192; omega, by show _ ≤ 104096; omega⟩ ⟨by show _ ≤ 1131106; omega, by show _ ≤ 5695108; omega⟩ (fun u hu0 => wl_next K (by rw [← hu0]; exact kn u _ _ (by omega) (by omega)))
    | 34, hx, ho => by
      obtain ⟨v, rm, rm2, ⟨f1, f2, f3, f4, f5, f6⟩, hM, hM2⟩ := ho
      refine wl_table (tgt := 1037) 33 K dL_law_33 (by rw [hx]; decide) (by rw [hx]; decide) (by rw [hx]; rfl) (by decide) ?_
      exact wl_c34 K hX (by omega) (hM q) (hM2 qm) hs ⟨by show _ ≤ 8192; omega, by show _ ≤ 104096; omega⟩ ⟨by show _ ≤ 1131106; omega, by show _ ≤ 5695108; omega⟩ ⟨by show _ ≤ 8192; omega, by show _ ≤ 104096; omega⟩ ⟨by show _ ≤ 1131106; omega, by show _ ≤ 5695108; omega⟩ (fun u hu0 => wl_next K (by rw [← hu0]; exact kn u _ _ (by omega) (by omega)))
    | 35, hx, ho => by
      obtain ⟨v, rm, rm2, ⟨f1, f2, f3, f4, f5, f6⟩, hM, hM2⟩ := ho
      refine wl_table (tgt := 1060) 33 K dL_law_33 (by rw [hx]; decide) (by rw [hx]; decide) (by rw [hx]; rfl) (by decide) ?_
      exact wl_c35 K hX (by omega) (hM q) (hM2 qm) hs ⟨by show _ ≤ 8192; omega, by show _ ≤ 104096; omega⟩ ⟨by show _ ≤ 1131106; omega, by show _ ≤ 5695108; omega⟩ ⟨by show _ ≤ 8192; omega, by show _ ≤ 104096; omega⟩ ⟨by show _ ≤ 1131106; omega, by show _ ≤ 5695108; omega⟩ (fun u hu0 => wl_next K (by rw [← hu0]; exact kn u _ _ (by omega) (by omega)))
    | 36, hx, ho => by
      obtain ⟨v, rm, rm2, ⟨f1, f2, f3, f4, f5, f6⟩, hM, hM2⟩ := ho
      refine wl_table (tgt := 1083) 33 K dL_law_33 (by rw [hx]; decide) (by rw [hx]; decide) (by rw [hx]; rfl) (by decide) ?_
      exact wl_c36 K hX (by omega) (hM q) (hM2 qm) hs ⟨by show _ ≤ 8192; omega, by show _ ≤ 104096; omega⟩ ⟨by show _ ≤ 1131106; omega, by show _ ≤ 5695108; omega⟩ ⟨by show _ ≤ 8192; omega, by show _ ≤ 104096; omega⟩ ⟨by show _ ≤ 1131106; omega, by show _ ≤ 5695108; omega⟩ (fun u hu0 => wl_next K (by rw [← hu0]; exact kn u _ _ (by omega) (by omega)))
    | 37, hx, ho => by
      obtain ⟨v, rm, rm2, ⟨f1, f2, f3, f4, f5, f6⟩, hM, hM2⟩ := ho
      refine wl_table (tgt := 1106) 33 K dL_law_33 (by rw [hx]; decide) (by rw [hx]; decide) (by rw [hx]; rfl) (by decide) ?_
      exact wl_c37 K hX (by omega) (hM q) (hM2 qm) hs ⟨by show _ ≤ 8192; omega, by show _ ≤ 104096; omega⟩ ⟨by show _ ≤ 1131106; omega, by show _ ≤ 5695108; omega⟩ ⟨by show _ ≤ 8192; omega, by show _ ≤ 104096; omega⟩ ⟨by show _ ≤ 1131106; omega, by show _ ≤ 5695108; omega⟩ (fun u hu0 => wl_next K (by rw [← hu0]; exact kn u _ _ (by omega) (by omega)))
    | 38, hx, ho => by
      obtain ⟨v, rm, rm2, ⟨f1, f2, f3, f4, f5, f6⟩, hM, hM2⟩ := ho
      refine wl_table (tgt := 1129) 33 K dL_law_33 (by rw [hx]; decide) (by rw [hx]; decide) (by rw [hx]; rfl) (by decide) ?_
      exact wl_c38 K hX (by omega) (hM q) (hM2 qm) hs ⟨by show _ ≤ 8192; omega, by show _ ≤ 104096; omega⟩ ⟨by show _ ≤ 1131106; omega, by show _ ≤ 5695108; omega⟩ ⟨by show _ ≤ 8192; omega, by show _ ≤ 104096; omega⟩ ⟨by show _ ≤ 1131106; omega, by show _ ≤ 5695108; omega⟩ (fun u hu0 => wl_next K (by rw [← hu0]; exact kn u _ _ (by omega) (by omega)))
    | 39, hx, ho => by
      obtain ⟨v, rm, rm2, ⟨f1, f2, f3, f4, f5, f6⟩, hM, hM2⟩ := ho
      refine wl_table (tgt := 1152) 33 K dL_law_33 (by rw [hx]; decide) (by rw [hx]; decide) (by rw [hx]; rfl) (by decide) ?_
      exact wl_c39 K hX (by omega) (hM q) (hM2 qm) hs ⟨by show _ ≤ 8192; omega, by show _ ≤ 104096; omega⟩ ⟨by show _ ≤ 1131106; omega, by show _ ≤ 5695108; omega⟩ ⟨by show _ ≤ 8192; omega, by show _ ≤ 104096; omega⟩ ⟨by show _ ≤ 1131106; omega, by show _ ≤ 5695108; omega⟩ (fun u hu0 => wl_next K (by rw [← hu0]; exact kn u _ _ (by omega) (by omega)))
    | 40, hx, ho => by
      obtain ⟨v, rm, rm2, ⟨f1, f2, f3, f4, f5, f6⟩, hM, hM2⟩ := ho
      refine wl_table (tgt := 1176) 33 K dL_law_33 (by rw [hx]; decide) (by rw [hx]; decide) (by rw [hx]; rfl) (by decide) ?_
      exact wl_c40 K hX (by omega) (hM q) (hM2 qm) hs ⟨by show _ ≤ 8192; omega, by show _ ≤ 104096; omega⟩ ⟨by show _ ≤ 1131106; omega, by show _ ≤ 5695108; omega⟩ ⟨by show _ ≤ 8192; omega, by show _ ≤ 104096; omega⟩ ⟨by show _ ≤ 1131106; omega, by show _ ≤ 5695108; omega⟩ (fun u hu0 => wl_next K (by rw [← hu0]; exact kn u _ _ (by omega) (by omega)))
    | 41, hx, ho => by
      obtain ⟨v, rm, rm2, ⟨f1, f2, f3, f4, f5, f6⟩, hM, hM2⟩ := ho
      refine wl_table (tgt := 1209) 33 K dL_law_33 (by rw [hx]; decide) (by rw [hx]; decide) (by rw [hx]; rfl) (by decide) ?_
      exact wl_c41 K hX (by omega) (hM q) (hM2 qm) hs ⟨by show _ ≤ 8192; omega, by show _ ≤ 104096; omega⟩ ⟨by show _ ≤ 1131106; omega, by show _ ≤ 5695108; omega⟩ ⟨by show _ ≤ 8192; omega, by show _ ≤ 104096; omega⟩ ⟨by show _ ≤ 1131106; omega, by show _ ≤ 5695108; omega⟩ (fun u hu0 => wl_next K (by rw [← hu0]; exact kn u _ _ (by omega) (by omega)))
    | 42, hx, ho => by
      obtain ⟨v, rm, rm2, ⟨f1, f2, f3, f4, f5, f6⟩, hM, hM2⟩ := ho
      refine wl_table (tgt := 1242) 33 K dL_law_33 (by rw [hx]; decide) (by rw [hx]; decide) (by rw [hx]; rfl) (by decide) ?_
      exact wl_c42 K hX (by omega) (hM q) (hM2 qm) hs ⟨by show _ ≤ 8192; omega, by show _ ≤ 104096; omega⟩ ⟨by show _ ≤ 1131106; omega, by show _ ≤ 5695108; omega⟩ ⟨by show _ ≤ 8192; omega, by show _ ≤ 104096; omega⟩ ⟨by show _ ≤ 1131106; omega, by show _ ≤ 5695108; omega⟩ (fun u hu0 => wl_next K (by rw [← hu0]; exact kn u _ _ (by omega) (by omega)))
    | 43, hx, ho => by
      obtain ⟨v, rm, rm2, ⟨f1, f2, f3, f4, f5, f6⟩, hM, hM2⟩ := ho
      refine wl_table (tgt := 1265) 33 K dL_law_33 (by rw [hx]; decide) (by rw [hx]; decide) (by rw [hx]; rfl) (by decide) ?_
      exact wl_c43 K hX (by omega) (hM q) (hM2 qm) hs ⟨by show _ ≤ 8192; omega, by show _ ≤ 104096; omega⟩ ⟨by show _ ≤ 1131106; omega, by show _ ≤ 5695108; omega⟩ ⟨by show _ ≤ 8192; omega, by show _ ≤ 104096; omega⟩ ⟨by show _ ≤ 1131106; omega, by show _ ≤ 5695108; omega⟩ (fun u hu0 => wl_next K (by rw [← hu0]; exact kn u _ _ (by omega) (by omega)))
    | 44, hx, ho => by
      obtain ⟨v, rm, rm2, ⟨f1, f2, f3, f4, f5, f6⟩, hM, hM2⟩ := ho
      refine wl_table (tgt := 1298) 33 K dL_law_33 (by rw [hx]; decide) (by rw [hx]; decide) (by rw [hx]; rfl) (by decide) ?_
      exact wl_c44 K hX (by omega) (hM q) (hM2 qm) hs ⟨by show _ ≤ 8192; omega, by show _ ≤ 104096; omega⟩ ⟨by show _ ≤ 1131106; omega, by show _ ≤ 5695108; omega⟩ ⟨by show _ ≤ 8192; omega, by show _ ≤ 104096; omega⟩ ⟨by show _ ≤ 1131106; omega, by show _ ≤ 5695108; omega⟩ (fun u hu0 => wl_next K (by rw [← hu0]; exact kn u _ _ (by omega) (by omega)))
    | 45, hx, ho => by
      obtain ⟨v, rm, rm2, ⟨f1, f2, f3, f4, f5, f6⟩, hM, hM2⟩ := ho
      refine wl_table (tgt := 1331) 33 K dL_law_33 (by rw [hx]; decide) (by rw [hx]; decide) (by rw [hx]; rfl) (by decide) ?_
      exact wl_c45 K hX (by omega) (hM q) (hM2 qm) hs ⟨by show _ ≤ 8192; omega, by show _ ≤ 104096; omega⟩ ⟨by show _ ≤ 1131106; omega, by show _ ≤ 5695108; omega⟩ ⟨by show _ ≤ 8192; omega, by show _ ≤ 104096; omega⟩ ⟨by show _ ≤ 1131106; omega, by show _ ≤ 5695108; omega⟩ (fun u hu0 => wl_next K (by rw [← hu0]; exact kn u _ _ (by omega) (by omega)))
    | 46, hx, ho => by
      obtain ⟨v, rm, rm2, ⟨f1, f2, f3, f4, f5, f6⟩, hM, hM2⟩ := ho
      refine wl_table (tgt := 1354) 33 K dL_law_33 (by rw [hx]; decide) (by rw [hx]; decide) (by rw [hx]; rfl) (by decide) ?_
      exact wl_c46 K hX (by omega) (hM q) (hM2 qm) hs ⟨by show _ ≤ 8192; omega, by show _ ≤ 104096; omega⟩ ⟨by show _ ≤ 1131106; omega, by show _ ≤ 5695108; omega⟩ ⟨by show _ ≤ 8192; omega, by show _ ≤ 104096; omega⟩ ⟨by show _ ≤ 1131106; omega, by show _ ≤ 5695108; omega⟩ (fun u hu0 => wl_next K (by rw [← hu0]; exact kn u _ _ (by omega) (by omega)))
    | 47, hx, ho => by
      obtain ⟨v, rm, rm2, ⟨f1, f2, f3, f4, f5, f6⟩, hM, hM2⟩ := ho
      refine wl_table (tgt := 1377) 33 K dL_law_33 (by rw [hx]; decide) (by rw [hx]; decide) (by rw [hx]; rfl) (by decide) ?_
      exact wl_c47 K hX (by omega) (hM q) (hM2 qm) hs ⟨by show _ ≤ 8192; omega, by show _ ≤ 104096; omega⟩ ⟨by show _ ≤ 1131106; omega, by show _ ≤ 5695108; omega⟩ ⟨by show _ ≤ 8192; omega, by show _ ≤ 104096; omega⟩ ⟨by show _ ≤ 1131106; omega, by show _ ≤ 5695108; omega⟩ (fun u hu0 => wl_next K (by rw [← hu0]; exact kn u _ _ (by omega) (by omega)))
    | 48, hx, ho => by
      obtain ⟨v, rm, rm2, ⟨f1, f2, f3, f4, f5, f6⟩, hM, hM2⟩ := ho
      refine wl_table (tgt := 1400) 33 K dL_law_33 (by rw [hx]; decide) (by rw [hx]; decide) (by rw [hx]; rfl) (by decide) ?_
      exact wl_c48 K hX (by omega) (hM q) (hM2 qm) hs ⟨by show _ ≤ 8192; omega, by show _ ≤ 104096; omega⟩ ⟨by show _ ≤ 1131106; omega, by show _ ≤ 5695108; omega⟩ ⟨by show _ ≤ 8192; omega, by show _ ≤ 104096; omega⟩ ⟨by show _ ≤ 1131106; omega, by show _ ≤ 5695108; omega⟩ (fun u hu0 => wl_next K (by rw [← hu0]; exact kn u _ _ (by omega) (by omega)))
    | 49, hx, ho => by
      obtain ⟨v, rm, rm2, ⟨f1, f2, f3, f4, f5, f6⟩, hM, hM2⟩ := ho
      refine wl_table (tgt := 1433) 33 K dL_law_33 (by rw [hx]; decide) (by rw [hx]; decide) (by rw [hx]; rfl) (by decide) ?_
      exact wl_c49 K hX (by omega) (hM q) (hM2 qm) hs ⟨by show _ ≤ 8192; omega, by show _ ≤ 104096; omega⟩ ⟨by show _ ≤ 1131106; omega, by show _ ≤ 5695108; omega⟩ ⟨by show _ ≤ 8192; omega, by show _ ≤ 104096; omega⟩ ⟨by show _ ≤ 1131106; omega, by show _ ≤ 5695108; omega⟩ (fun u hu0 => wl_next K (by rw [← hu0]; exact kn u _ _ (by omega) (by omega)))
    | 50, hx, ho => by
      obtain ⟨v, rm, rm2, ⟨f1, f2, f3, f4, f5, f6⟩, hM, hM2⟩ := ho
      refine wl_table (tgt := 1466) 33 K dL_law_33 (by rw [hx]; decide) (by rw [hx]; decide) (by rw [hx]; rfl) (by decide) ?_
      exact wl_c50 K hX (by omega) (hM q) (hM2 qm) hs ⟨by show _ ≤ 8192; omega, by show _ ≤ 104096; omega⟩ ⟨by show _ ≤ 1131106; omega, by show _ ≤ 5695108; omega⟩ ⟨by show _ ≤ 8192; omega, by show _ ≤ 104096; omega⟩ ⟨by show _ ≤ 1131106; omega, by show _ ≤ 5695108; omega⟩ (fun u hu0 => wl_next K (by rw [← hu0]; exact kn u _ _ (by omega) (by omega)))
    | 51, hx, ho => by
      obtain ⟨v, rm, rm2, ⟨f1, f2, f3, f4, f5, f6⟩, hM, hM2⟩ := ho
      refine wl_table (tgt := 1499) 33 K dL_law_33 (by rw [hx]; decide) (by rw [hx]; decide) (by rw [hx]; rfl) (by decide) ?_
      exact wl_c51 K hX (by omega) (hM q) (hM2 qm) hs ⟨by show _ ≤ 8192; omega, by show _ ≤ 104096; omega⟩ ⟨by show _ ≤ 1131106; omega, by show _ ≤ 5695108; omega⟩ ⟨by show _ ≤ 8192; omega, by show _ ≤ 104096; omega⟩ ⟨by show _ ≤ 1131106; omega, by show _ ≤ 5695108; omega⟩ (fun u hu0 => wl_next K (by rw [← hu0]; exact kn u _ _ (by omega) (by omega)))
    | 52, hx, ho => by
      obtain ⟨v, rm, rm2, ⟨f1, f2, f3, f4, f5, f6⟩, hM, hM2⟩ := ho
      refine wl_table (tgt := 1532) 33 K dL_law_33 (by rw [hx]; decide) (by rw [hx]; decide) (by rw [hx]; rfl) (by decide) ?_
      exact wl_c52 K hX (by omega) (hM q) (hM2 qm) hs ⟨by show _ ≤ 8192; omega, by show _ ≤ 104096; omega⟩ ⟨by show _ ≤ 1131106; omega, by show _ ≤ 5695108; omega⟩ ⟨by show _ ≤ 8192; omega, by show _ ≤ 104096; omega⟩ ⟨by show _ ≤ 1131106; omega, by show _ ≤ 5695108; omega⟩ (fun u hu0 => wl_next K (by rw [← hu0]; exact kn u _ _ (by omega) (by omega)))
    | 53, hx, ho => by
      obtain ⟨v, rm, rm2, ⟨f1, f2, f3, f4, f5, f6⟩, hM, hM2⟩ := ho
      refine wl_table (tgt := 1565) 33 K dL_law_33 (by rw [hx]; decide) (by rw [hx]; decide) (by rw [hx]; rfl) (by decide) ?_
      exact wl_c53 K hX (by omega) (hM q) (hM2 qm) hs ⟨by show _ ≤ 8192; omega, by show _ ≤ 104096; omega⟩ ⟨by show _ ≤ 1131106; omega, by show _ ≤ 5695108; omega⟩ ⟨by show _ ≤ 8192; omega, by show _ ≤ 104096; omega⟩ ⟨by show _ ≤ 1131106; omega, by show _ ≤ 5695108; omega⟩ (fun u hu0 => wl_next K (by rw [← hu0]; exact kn u _ _ (by omega) (by omega)))
    | 54, hx, ho => by
      obtain ⟨v, rm, rm2, ⟨f1, f2, f3, f4, f5, f6⟩, hM, hM2⟩ := ho
      refine wl_table (tgt := 1588) 33 K dL_law_33 (by rw [hx]; decide) (by rw [hx]; decide) (by rw [hx]; rfl) (by decide) ?_
      exact wl_c54 K hX (by omega) (hM q) (hM2 qm) hs ⟨by show _ ≤ 8192; omega, by show _ ≤ 104096; omega⟩ ⟨by show _ ≤ 1131106; omega, by show _ ≤ 5695108; omega⟩ ⟨by show _ ≤ 8192; omega, by show _ ≤ 104096; omega⟩ ⟨by show _ ≤ 1131106; omega, by show _ ≤ 5695108; omega⟩ (fun u hu0 => wl_next K (by rw [← hu0]; exact kn u _ _ (by omega) (by omega)))
    | 55, hx, ho => by
      obtain ⟨v, rm, rm2, ⟨f1, f2, f3, f4, f5, f6⟩, hM, hM2⟩ := ho
      refine wl_table (tgt := 1611) 33 K dL_law_33 (by rw [hx]; decide) (by rw [hx]; decide) (by rw [hx]; rfl) (by decide) ?_
      exact wl_c55 K hX (by omega) (hM q) (hM2 qm) hs ⟨by show _ ≤ 8192; omega, by show _ ≤ 104096; omega⟩ ⟨by show _ ≤ 1131106; omega, by show _ ≤ 5695108; omega⟩ ⟨by show _ ≤ 8192; omega, by show _ ≤ 104096; omega⟩ ⟨by show _ ≤ 1131106; omega, by show _ ≤ 5695108; omega⟩ (fun u hu0 => wl_next K (by rw [← hu0]; exact kn u _ _ (by omega) (by omega)))
    | 56, hx, ho => by
      obtain ⟨v, rm, rm2, ⟨f1, f2, f3, f4, f5, f6⟩, hM, hM2⟩ := ho
      refine wl_table (tgt := 1634) 33 K dL_law_33 (by rw [hx]; decide) (by rw [hx]; decide) (by rw [hx]; rfl) (by decide) ?_
      exact wl_c56 K hX (by omega) (hM q) (hM2 qm) hs ⟨by show _ ≤ 8192; omega, by show _ ≤ 104096; omega⟩ ⟨by show _ ≤ 1131106; omega, by show _ ≤ 5695108; omega⟩ ⟨by show _ ≤ 8192; omega, by show _ ≤ 104096; omega⟩ ⟨by show _ ≤ 1131106; omega, by show _ ≤ 5695108; omega⟩ (fun u hu0 => wl_next K (by rw [← hu0]; exact kn u _ _ (by omega) (by omega)))
    | 57, hx, ho => by
      obtain ⟨v, rm, rm2, ⟨f1, f2, f3, f4, f5, f6⟩, hM, hM2⟩ := ho
      refine wl_table (tgt := 1677) 33 K dL_law_33 (by rw [hx]; decide) (by rw [hx]; decide) (by rw [hx]; rfl) (by decide) ?_
      exact wl_c57 K hX (by omega) (hM q) (hM2 qm) hs ⟨by show _ ≤ 8192; omega, by show _ ≤ 104096; omega⟩ ⟨by show _ ≤ 1131106; omega, by show _ ≤ 5695108; omega⟩ ⟨by show _ ≤ 8192; omega, by show _ ≤ 104096; omega⟩ ⟨by show _ ≤ 1131106; omega, by show _ ≤ 5695108; omega⟩ (fun u hu0 => wl_next K (by rw [← hu0]; exact kn u _ _ (by omega) (by omega)))
    | 58, hx, ho => by
      obtain ⟨v, rm, rm2, ⟨f1, f2, f3, f4, f5, f6⟩, hM, hM2⟩ := ho
      refine wl_table (tgt := 1750) 33 K dL_law_33 (by rw [hx]; decide) (by rw [hx]; decide) (by rw [hx]; rfl) (by decide) ?_
      exact wl_c58 K hX (by omega) (hM q) (hM2 qm) hs ⟨by show _ ≤ 8192; omega, by show _ ≤ 104096; omega⟩ ⟨by show _ ≤ 1131106; omega, by show _ ≤ 5695108; omega⟩ ⟨by show _ ≤ 8192; omega, by show _ ≤ 104096; omega⟩ ⟨by show _ ≤ 1131106; omega, by show _ ≤ 5695108; omega⟩ (fun u hu0 => wl_next K (by rw [← hu0]; exact kn u _ _ (by omega) (by omega)))
    | k + 59, hx, ho => by
      obtain ⟨rfl, rfl, rfl⟩ := ho
      refine wl_tableO (tgt := 1813) 33 K dL_law_33 (Or.inr (by rw [hx]; omega)) (by decide) ?_
      exact wl_next K (kn q _ _ (by omega) (by omega))
/-- THE LAW'S LOOP -/
theorem wl_loop {p : Program} {l : Launch} {e : Env} {s : State} {m : MethodId} {below : List Frame} {meth : Method} {c : Code} {b : Nat} {D : va_G} {ca : wCA} {A : Nat → Prop} {Z : (Nat → Prop) → State → Heap → Prop} {L : Nat} {xs : Nat → Int32} (K : wLc p s m meth c b D ca A Z) (hX : wLs b L xs s A) (hL : L ≤ 384) (hret : meth.sig.returnType = ret) (hA : ∀ a, A a → s.heap.size ≤ a ∨ ∃ cell : Cell, s.heap[a]? = some cell ∧ cell.slots.size = 0) (Rel : Nat → List wCell → wMem → wMem → Prop) (hR0 : ∀ n sp μ μm, Rel n sp μ μm → ∃ fs, sp[0]? = some (.inl (0, fs))) (hst : ∀ n k a1 a2 a3 a4 a5 sp μ μm, Rel (n + 1) sp μ μm → ∃ sp1 μ1 μm1, Rel n sp1 μ1 μm1 ∧ wOK Z l D ca a1 a2 a3 a4 a5 sp μ μm sp1 μ1 μm1 k) : ∀ (n i : Nat) (sp : List wCell) (q qm : Nat → Nat) (μ μm : wMem) (kc ks : Nat), L ≤ i + 6 * n + 5 → i ≤ 394 → Rel n sp μ μm → kc + 64 * n ≤ 1131106 → ks + 1024 * n ≤ 5695108 → wLJ p l e s m b below meth c (wLI D ca A s sp q μ qm μm) kc ks 18 (wLv b (q 0) (qm 0) (nI i)) [] := by
  have hend : ∀ (i : Nat) (sp : List wCell) (q qm : Nat → Nat) (μ μm : wMem) (kc ks : Nat), kc ≤ 1131106 → ks ≤ 5695108 → wLJ p l e s m b below meth c (wLI D ca A s sp q μ qm μm) kc ks 1819 (wLv b (q 0) (qm 0) (nI i)) [] := by
    intro i sp q qm μ μm kc ks hk1 hk2
    refine wl_iconst 1819 K dL_law_1819 (v := 1) rfl ?_
    intro H locs ls h1 h3
    refine w_forget (fun y hy => hA _ (h1.2.2.1.2.2 y hy)) ?_
    refine W.widen (k := 1131106) (n := 5695108) hk1 hk2 ?_
    exact lw_ret K.1 K.2.1 hret K.2.2.2.2.2.2.1 dL_law_1820
  have hhead : ∀ (i : Nat) (sp : List wCell) (q qm : Nat → Nat) (μ μm : wMem) (kc ks : Nat), i ≤ 394 → kc ≤ 1131106 → ks ≤ 5695108 → (i + 6 ≤ L → wLJ p l e s m b below meth c (wLI D ca A s sp q μ qm μm) kc ks 27 (wLv b (q 0) (qm 0) (nI i)) []) → wLJ p l e s m b below meth c (wLI D ca A s sp q μ qm μm) kc ks 18 (wLv b (q 0) (qm 0) (nI i)) [] := by
    intro i sp q qm μ μm kc ks hi hk1 hk2 kk
    refine wl_iload_n 18 K dL_law_18 0 rfl rfl ?_
    refine wl_aload_n 19 K dL_law_19 3 rfl rfl ?_
    refine wl_slen 20 K hX.1 hX.2.1 hX.2.2.1 dL_law_20 ?_
    refine wl_bipush 21 K dL_law_21 (v := 6) rfl ?_
    refine wl_isub 23 K dL_law_23 ?_
    exact wl_icmp_gt (tgt := 1819) 24 K dL_law_24 (by decide) (fun _ => hend i sp q qm μ μm kc ks hk1 hk2) (fun h => kk (wCmp hL (by omega) h))
  intro n
  induction n with
  | zero =>
    intro i sp q qm μ μm kc ks h1 h2 hR hk1 hk2
    exact hhead i sp q qm μ μm kc ks h2 (by omega) (by omega) (fun h => absurd h (by omega))
  | succ n ih =>
    intro i sp q qm μ μm kc ks h1 h2 hR hk1 hk2
    refine hhead i sp q qm μ μm kc ks h2 (by omega) (by omega) (fun h => ?_)
    refine wl_aload_n 27 K dL_law_27 3 rfl rfl ?_
    refine wl_iload_n 28 K dL_law_28 0 rfl rfl ?_
    refine wl_sld (v := xs i) 29 K hX.1 hX.2.1 hX.2.2.1 (vp_in_nI (show i < L by omega) hX.2.2.2) dL_law_29 (by rw [nI_clamp (by omega)]) ?_
    refine wl_bipush 30 K dL_law_30 (v := 63) rfl ?_
    refine wl_iand 32 K dL_law_32 ?_
    obtain ⟨sp1, μ1, μm1, hR1, hO⟩ := hst n (wKs (xs i)) (xs (i + 1)) (xs (i + 2)) (xs (i + 3)) (xs (i + 4)) (xs (i + 5)) sp μ μm hR
    obtain ⟨fs, hs⟩ := hR0 _ sp μ μm hR
    exact wl_case K hX (by omega) hs (by omega) (by omega) (fun u kc1 ks1 g1 g2 => ih (i + 6) sp1 u qm μ1 μm1 kc1 ks1 (by omega) (by omega) hR1 (by omega) (by omega)) (wKs (xs i)) (wKs_int (xs i)) hO
