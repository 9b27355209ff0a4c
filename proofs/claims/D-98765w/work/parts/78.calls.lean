set_option maxRecDepth 100000
theorem wo_0 {aE : Nat} {ad adK adV : Nat → Nat} {fo : Option Nat} {l : Launch} {D : va_G} {ca : wCA} {a1 a2 a3 a4 a5 : Int32} {E : List wCell} {μ μm μ1 μm1 : wMem} {v : Int32} (N : Nat) (hf : fX0_feed N  a1 a2 a3 a4 a5 μ = some (v, μ1)) (M : Nat) (hm : fX6_feed M a1 a2 a3 a4 a5 μm = some (v, μm1)) : wO_0 (wZa aE ad adK adV fo) l D ca a1 a2 a3 a4 a5 (spX ++ E) μ μm (spX ++ E) μ1 μm1 :=
  ⟨v, _, _, ⟨Nat.le_of_ble_eq_true rfl, Nat.le_of_ble_eq_true rfl, Nat.le_of_ble_eq_true rfl, Nat.le_of_ble_eq_true rfl, Nat.le_of_ble_eq_true rfl, Nat.le_of_ble_eq_true rfl⟩, fun q => wX_Mi (tX0_feed l N a1 a2 a3 a4 a5 μ (v, μ1) hf), fun qm => by
    have h := tX6_feed (E := []) (q := qm) (D := D) (ca := ca) l M a1 a2 a3 a4 a5 μm (v, μm1) hm
    rwa [List.append_nil] at h⟩
theorem wo_1 {aE : Nat} {ad adK adV : Nat → Nat} {fo : Option Nat} {l : Launch} {D : va_G} {ca : wCA} {a1 a2 a3 a4 a5 : Int32} {E : List wCell} {μ μm μ1 μm1 : wMem} {v : Int32} (N : Nat) (hf : fX0_end N  a1 μ = some (v, μ1)) (M : Nat) (hm : fX6_end M a1 μm = some (v, μm1)) : wO_1 (wZa aE ad adK adV fo) l D ca a1 a2 a3 a4 a5 (spX ++ E) μ μm (spX ++ E) μ1 μm1 :=
  ⟨v, _, _, ⟨Nat.le_of_ble_eq_true rfl, Nat.le_of_ble_eq_true rfl, Nat.le_of_ble_eq_true rfl, Nat.le_of_ble_eq_true rfl, Nat.le_of_ble_eq_true rfl, Nat.le_of_ble_eq_true rfl⟩, fun q => wX_Mi (tX0_end l N a1 μ (v, μ1) hf), fun qm => by
    have h := tX6_end (E := []) (q := qm) (D := D) (ca := ca) l M a1 μm (v, μm1) hm
    rwa [List.append_nil] at h⟩
theorem wo_3 {aE : Nat} {ad adK adV : Nat → Nat} {fo : Option Nat} {l : Launch} {D : va_G} {ca : wCA} {a1 a2 a3 a4 a5 : Int32} {E : List wCell} {μ μm μ1 μm1 : wMem} {v : Int32} (N : Nat) (hf : fX0_fault N  a1 μ = some (v, μ1)) (M : Nat) (hm : fX6_fault M a1 μm = some (v, μm1)) : wO_3 (wZa aE ad adK adV fo) l D ca a1 a2 a3 a4 a5 (spX ++ E) μ μm (spX ++ E) μ1 μm1 :=
  ⟨v, _, _, ⟨Nat.le_of_ble_eq_true rfl, Nat.le_of_ble_eq_true rfl, Nat.le_of_ble_eq_true rfl, Nat.le_of_ble_eq_true rfl, Nat.le_of_ble_eq_true rfl, Nat.le_of_ble_eq_true rfl⟩, fun q => wX_Mi (tX0_fault l N a1 μ (v, μ1) hf), fun qm => by
    have h := tX6_fault (E := []) (q := qm) (D := D) (ca := ca) l M a1 μm (v, μm1) hm
    rwa [List.append_nil] at h⟩
theorem wo_4 {aE : Nat} {ad adK adV : Nat → Nat} {fo : Option Nat} {l : Launch} {D : va_G} {ca : wCA} {a1 a2 a3 a4 a5 : Int32} {E : List wCell} {μ μm μ1 μm1 : wMem} {v : Int32} (N : Nat) (hf : fX0_person N  a1 a2 μ = some (v, μ1)) (M : Nat) (hm : fX6_person M a1 a2 μm = some (v, μm1)) : wO_4 (wZa aE ad adK adV fo) l D ca a1 a2 a3 a4 a5 (spX ++ E) μ μm (spX ++ E) μ1 μm1 :=
  ⟨v, _, _, ⟨Nat.le_of_ble_eq_true rfl, Nat.le_of_ble_eq_true rfl, Nat.le_of_ble_eq_true rfl, Nat.le_of_ble_eq_true rfl, Nat.le_of_ble_eq_true rfl, Nat.le_of_ble_eq_true rfl⟩, fun q => wX_Mi (tX0_person l N a1 a2 μ (v, μ1) hf), fun qm => by
    have h := tX6_person (E := []) (q := qm) (D := D) (ca := ca) l M a1 a2 μm (v, μm1) hm
    rwa [List.append_nil] at h⟩
theorem wo_5 {aE : Nat} {ad adK adV : Nat → Nat} {fo : Option Nat} {l : Launch} {D : va_G} {ca : wCA} {a1 a2 a3 a4 a5 : Int32} {E : List wCell} {μ μm μ1 μm1 : wMem} {v : Int32} (N : Nat) (hf : fX0_post N  a1 a2 μ = some (v, μ1)) (M : Nat) (hm : fX6_post M a1 a2 μm = some (v, μm1)) : wO_5 (wZa aE ad adK adV fo) l D ca a1 a2 a3 a4 a5 (spX ++ E) μ μm (spX ++ E) μ1 μm1 :=
  ⟨v, _, _, ⟨Nat.le_of_ble_eq_true rfl, Nat.le_of_ble_eq_true rfl, Nat.le_of_ble_eq_true rfl, Nat.le_of_ble_eq_true rfl, Nat.le_of_ble_eq_true rfl, Nat.le_of_ble_eq_true rfl⟩, fun q => wX_Mi (tX0_post l N a1 a2 μ (v, μ1) hf), fun qm => by
    have h := tX6_post (E := []) (q := qm) (D := D) (ca := ca) l M a1 a2 μm (v, μm1) hm
    rwa [List.append_nil] at h⟩
theorem wo_6 {aE : Nat} {ad adK adV : Nat → Nat} {fo : Option Nat} {l : Launch} {D : va_G} {ca : wCA} {a1 a2 a3 a4 a5 : Int32} {E : List wCell} {μ μm μ1 μm1 : wMem} {v : Int32} (N : Nat) (hf : fX0_risk N  a1 a2 μ = some (v, μ1)) (M : Nat) (hm : fX6_risk M a1 a2 μm = some (v, μm1)) : wO_6 (wZa aE ad adK adV fo) l D ca a1 a2 a3 a4 a5 (spX ++ E) μ μm (spX ++ E) μ1 μm1 :=
  ⟨v, _, _, ⟨Nat.le_of_ble_eq_true rfl, Nat.le_of_ble_eq_true rfl, Nat.le_of_ble_eq_true rfl, Nat.le_of_ble_eq_true rfl, Nat.le_of_ble_eq_true rfl, Nat.le_of_ble_eq_true rfl⟩, fun q => wX_Mi (tX0_risk l N a1 a2 μ (v, μ1) hf), fun qm => by
    have h := tX6_risk (E := []) (q := qm) (D := D) (ca := ca) l M a1 a2 μm (v, μm1) hm
    rwa [List.append_nil] at h⟩
theorem wo_7 {aE : Nat} {ad adK adV : Nat → Nat} {fo : Option Nat} {l : Launch} {D : va_G} {ca : wCA} {a1 a2 a3 a4 a5 : Int32} {E : List wCell} {μ μm μ1 μm1 : wMem} {v : Int32} (N : Nat) (hf : fX0_after N  a1 a2 μ = some (v, μ1)) (M : Nat) (hm : fX6_after M a1 a2 μm = some (v, μm1)) : wO_7 (wZa aE ad adK adV fo) l D ca a1 a2 a3 a4 a5 (spX ++ E) μ μm (spX ++ E) μ1 μm1 :=
  ⟨v, _, _, ⟨Nat.le_of_ble_eq_true rfl, Nat.le_of_ble_eq_true rfl, Nat.le_of_ble_eq_true rfl, Nat.le_of_ble_eq_true rfl, Nat.le_of_ble_eq_true rfl, Nat.le_of_ble_eq_true rfl⟩, fun q => wX_Mi (tX0_after l N a1 a2 μ (v, μ1) hf), fun qm => by
    have h := tX6_after (E := []) (q := qm) (D := D) (ca := ca) l M a1 a2 μm (v, μm1) hm
    rwa [List.append_nil] at h⟩
theorem wo_8 {aE : Nat} {ad adK adV : Nat → Nat} {fo : Option Nat} {l : Launch} {D : va_G} {ca : wCA} {a1 a2 a3 a4 a5 : Int32} {E : List wCell} {μ μm μ1 μm1 : wMem} {v : Int32} (N : Nat) (hf : fX0_now N  a1 μ = some (v, μ1)) (M : Nat) (hm : fX6_now M a1 μm = some (v, μm1)) : wO_8 (wZa aE ad adK adV fo) l D ca a1 a2 a3 a4 a5 (spX ++ E) μ μm (spX ++ E) μ1 μm1 :=
  ⟨v, _, _, ⟨Nat.le_of_ble_eq_true rfl, Nat.le_of_ble_eq_true rfl, Nat.le_of_ble_eq_true rfl, Nat.le_of_ble_eq_true rfl, Nat.le_of_ble_eq_true rfl, Nat.le_of_ble_eq_true rfl⟩, fun q => wX_Mi (tX0_now l N a1 μ (v, μ1) hf), fun qm => by
    have h := tX6_now (E := []) (q := qm) (D := D) (ca := ca) l M a1 μm (v, μm1) hm
    rwa [List.append_nil] at h⟩
theorem wo_9 {aE : Nat} {ad adK adV : Nat → Nat} {fo : Option Nat} {l : Launch} {D : va_G} {ca : wCA} {a1 a2 a3 a4 a5 : Int32} {E : List wCell} {μ μm μ1 μm1 : wMem} {v : Int32} (N : Nat) (hf : fX0_stamp N  a1 μ = some (v, μ1)) (M : Nat) (hm : fX6_stamp M a1 μm = some (v, μm1)) : wO_9 (wZa aE ad adK adV fo) l D ca a1 a2 a3 a4 a5 (spX ++ E) μ μm (spX ++ E) μ1 μm1 :=
  ⟨v, _, _, ⟨Nat.le_of_ble_eq_true rfl, Nat.le_of_ble_eq_true rfl, Nat.le_of_ble_eq_true rfl, Nat.le_of_ble_eq_true rfl, Nat.le_of_ble_eq_true rfl, Nat.le_of_ble_eq_true rfl⟩, fun q => wX_Mi (tX0_stamp l N a1 μ (v, μ1) hf), fun qm => by
    have h := tX6_stamp (E := []) (q := qm) (D := D) (ca := ca) l M a1 μm (v, μm1) hm
    rwa [List.append_nil] at h⟩
theorem wo_10 {aE : Nat} {ad adK adV : Nat → Nat} {fo : Option Nat} {l : Launch} {D : va_G} {ca : wCA} {a1 a2 a3 a4 a5 : Int32} {E : List wCell} {μ μm μ1 μm1 : wMem} {v : Int32} (N : Nat) (hf : fX0_lies N   μ = some (v, μ1)) (M : Nat) (hm : fX6_lies M  μm = some (v, μm1)) : wO_10 (wZa aE ad adK adV fo) l D ca a1 a2 a3 a4 a5 (spX ++ E) μ μm (spX ++ E) μ1 μm1 :=
  ⟨v, _, _, ⟨Nat.le_of_ble_eq_true rfl, Nat.le_of_ble_eq_true rfl, Nat.le_of_ble_eq_true rfl, Nat.le_of_ble_eq_true rfl, Nat.le_of_ble_eq_true rfl, Nat.le_of_ble_eq_true rfl⟩, fun q => wX_Mi (tX0_lies l N μ (v, μ1) hf), fun qm => by
    have h := tX6_lies (E := []) (q := qm) (D := D) (ca := ca) l M  μm (v, μm1) hm
    rwa [List.append_nil] at h⟩
theorem wo_11 {aE : Nat} {ad adK adV : Nat → Nat} {fo : Option Nat} {l : Launch} {D : va_G} {ca : wCA} {a1 a2 a3 a4 a5 : Int32} {E : List wCell} {μ μm μ1 μm1 : wMem} {v : Int32} (N : Nat) (hf : fX0_why N  a1 a2 a3 μ = some (v, μ1)) (M : Nat) (hm : fX6_why M a1 a2 a3 μm = some (v, μm1)) : wO_11 (wZa aE ad adK adV fo) l D ca a1 a2 a3 a4 a5 (spX ++ E) μ μm (spX ++ E) μ1 μm1 :=
  ⟨v, _, _, ⟨Nat.le_of_ble_eq_true rfl, Nat.le_of_ble_eq_true rfl, Nat.le_of_ble_eq_true rfl, Nat.le_of_ble_eq_true rfl, Nat.le_of_ble_eq_true rfl, Nat.le_of_ble_eq_true rfl⟩, fun q => wX_Mi (tX0_why l N a1 a2 a3 μ (v, μ1) hf), fun qm => by
    have h := tX6_why (E := []) (q := qm) (D := D) (ca := ca) l M a1 a2 a3 μm (v, μm1) hm
    rwa [List.append_nil] at h⟩
theorem wo_12 {aE : Nat} {ad adK adV : Nat → Nat} {fo : Option Nat} {l : Launch} {D : va_G} {ca : wCA} {a1 a2 a3 a4 a5 : Int32} {E : List wCell} {μ μm μ1 μm1 : wMem} {v : Int32} (N : Nat) (hf : fX0_cross N  a1 a2 a3 μ = some (v, μ1)) (M : Nat) (hm : fX6_cross M a1 a2 a3 μm = some (v, μm1)) : wO_12 (wZa aE ad adK adV fo) l D ca a1 a2 a3 a4 a5 (spX ++ E) μ μm (spX ++ E) μ1 μm1 :=
  ⟨v, _, _, ⟨Nat.le_of_ble_eq_true rfl, Nat.le_of_ble_eq_true rfl, Nat.le_of_ble_eq_true rfl, Nat.le_of_ble_eq_true rfl, Nat.le_of_ble_eq_true rfl, Nat.le_of_ble_eq_true rfl⟩, fun q => wX_Mi (tX0_cross l N a1 a2 a3 μ (v, μ1) hf), fun qm => by
    have h := tX6_cross (E := []) (q := qm) (D := D) (ca := ca) l M a1 a2 a3 μm (v, μm1) hm
    rwa [List.append_nil] at h⟩
theorem wo_13 {aE : Nat} {ad adK adV : Nat → Nat} {fo : Option Nat} {l : Launch} {D : va_G} {ca : wCA} {a1 a2 a3 a4 a5 : Int32} {E : List wCell} {μ μm μ1 μm1 : wMem} {v : Int32} (N : Nat) (hf : fX0_loaf N   μ = some (v, μ1)) (M : Nat) (hm : fX6_loaf M  μm = some (v, μm1)) : wO_13 (wZa aE ad adK adV fo) l D ca a1 a2 a3 a4 a5 (spX ++ E) μ μm (spX ++ E) μ1 μm1 :=
  ⟨v, _, _, ⟨Nat.le_of_ble_eq_true rfl, Nat.le_of_ble_eq_true rfl, Nat.le_of_ble_eq_true rfl, Nat.le_of_ble_eq_true rfl, Nat.le_of_ble_eq_true rfl, Nat.le_of_ble_eq_true rfl⟩, fun q => wX_Mi (tX0_loaf l N μ (v, μ1) hf), fun qm => by
    have h := tX6_loaf (E := []) (q := qm) (D := D) (ca := ca) l M  μm (v, μm1) hm
    rwa [List.append_nil] at h⟩
theorem wo_14 {aE : Nat} {ad adK adV : Nat → Nat} {fo : Option Nat} {l : Launch} {D : va_G} {ca : wCA} {a1 a2 a3 a4 a5 : Int32} {E : List wCell} {μ μm μ1 μm1 : wMem} {v : Int32} (N : Nat) (hf : fX0_undo N   μ = some (v, μ1)) (M : Nat) (hm : fX6_undo M  μm = some (v, μm1)) : wO_14 (wZa aE ad adK adV fo) l D ca a1 a2 a3 a4 a5 (spX ++ E) μ μm (spX ++ E) μ1 μm1 :=
  ⟨v, _, _, ⟨Nat.le_of_ble_eq_true rfl, Nat.le_of_ble_eq_true rfl, Nat.le_of_ble_eq_true rfl, Nat.le_of_ble_eq_true rfl, Nat.le_of_ble_eq_true rfl, Nat.le_of_ble_eq_true rfl⟩, fun q => wX_Mi (tX0_undo l N μ (v, μ1) hf), fun qm => by
    have h := tX6_undo (E := []) (q := qm) (D := D) (ca := ca) l M  μm (v, μm1) hm
    rwa [List.append_nil] at h⟩
theorem wo_15 {aE : Nat} {ad adK adV : Nat → Nat} {fo : Option Nat} {l : Launch} {D : va_G} {ca : wCA} {a1 a2 a3 a4 a5 : Int32} {E : List wCell} {μ μm μ1 μm1 : wMem} {v : Int32} (N : Nat) (hf : fX0_anew N   μ = some (v, μ1)) (M : Nat) (hm : fX6_anew M  μm = some (v, μm1)) : wO_15 (wZa aE ad adK adV fo) l D ca a1 a2 a3 a4 a5 (spX ++ E) μ μm (spX ++ E) μ1 μm1 :=
  ⟨v, _, _, ⟨Nat.le_of_ble_eq_true rfl, Nat.le_of_ble_eq_true rfl, Nat.le_of_ble_eq_true rfl, Nat.le_of_ble_eq_true rfl, Nat.le_of_ble_eq_true rfl, Nat.le_of_ble_eq_true rfl⟩, fun q => wX_Mi (tX0_anew l N μ (v, μ1) hf), fun qm => by
    have h := tX6_anew (E := []) (q := qm) (D := D) (ca := ca) l M  μm (v, μm1) hm
    rwa [List.append_nil] at h⟩
theorem wo_16 {aE : Nat} {ad adK adV : Nat → Nat} {fo : Option Nat} {l : Launch} {D : va_G} {ca : wCA} {a1 a2 a3 a4 a5 : Int32} {E : List wCell} {μ μm μ1 μm1 : wMem} {v : Int32} (N : Nat) (hf : fX0_act N  a1 μ = some (v, μ1)) (M : Nat) (hm : fX6_act M a1 μm = some (v, μm1)) : wO_16 (wZa aE ad adK adV fo) l D ca a1 a2 a3 a4 a5 (spX ++ E) μ μm (spX ++ E) μ1 μm1 :=
  ⟨v, _, _, ⟨Nat.le_of_ble_eq_true rfl, Nat.le_of_ble_eq_true rfl, Nat.le_of_ble_eq_true rfl, Nat.le_of_ble_eq_true rfl, Nat.le_of_ble_eq_true rfl, Nat.le_of_ble_eq_true rfl⟩, fun q => wX_Mi (tX0_act l N a1 μ (v, μ1) hf), fun qm => by
    have h := tX6_act (E := []) (q := qm) (D := D) (ca := ca) l M a1 μm (v, μm1) hm
    rwa [List.append_nil] at h⟩
theorem wo_17 {aE : Nat} {ad adK adV : Nat → Nat} {fo : Option Nat} {l : Launch} {D : va_G} {ca : wCA} {a1 a2 a3 a4 a5 : Int32} {E : List wCell} {μ μm μ1 μm1 : wMem} {v : Int32} (N : Nat) (hf : fX0_acts N   μ = some (v, μ1)) (M : Nat) (hm : fX6_acts M  μm = some (v, μm1)) : wO_17 (wZa aE ad adK adV fo) l D ca a1 a2 a3 a4 a5 (spX ++ E) μ μm (spX ++ E) μ1 μm1 :=
  ⟨v, _, _, ⟨Nat.le_of_ble_eq_true rfl, Nat.le_of_ble_eq_true rfl, Nat.le_of_ble_eq_true rfl, Nat.le_of_ble_eq_true rfl, Nat.le_of_ble_eq_true rfl, Nat.le_of_ble_eq_true rfl⟩, fun q => wX_Mi (tX0_acts l N μ (v, μ1) hf), fun qm => by
    have h := tX6_acts (E := []) (q := qm) (D := D) (ca := ca) l M  μm (v, μm1) hm
    rwa [List.append_nil] at h⟩
theorem wo_18 {aE : Nat} {ad adK adV : Nat → Nat} {fo : Option Nat} {l : Launch} {D : va_G} {ca : wCA} {a1 a2 a3 a4 a5 : Int32} {E : List wCell} {μ μm μ1 μm1 : wMem} {v : Int32} (N : Nat) (hf : fX0_may N  a1 μ = some (v, μ1)) (M : Nat) (hm : fX6_may M a1 μm = some (v, μm1)) : wO_18 (wZa aE ad adK adV fo) l D ca a1 a2 a3 a4 a5 (spX ++ E) μ μm (spX ++ E) μ1 μm1 :=
  ⟨v, _, _, ⟨Nat.le_of_ble_eq_true rfl, Nat.le_of_ble_eq_true rfl, Nat.le_of_ble_eq_true rfl, Nat.le_of_ble_eq_true rfl, Nat.le_of_ble_eq_true rfl, Nat.le_of_ble_eq_true rfl⟩, fun q => wX_Mi (tX0_may l N a1 μ (v, μ1) hf), fun qm => by
    have h := tX6_may (E := []) (q := qm) (D := D) (ca := ca) l M a1 μm (v, μm1) hm
    rwa [List.append_nil] at h⟩
theorem wo_19 {aE : Nat} {ad adK adV : Nat → Nat} {fo : Option Nat} {l : Launch} {D : va_G} {ca : wCA} {a1 a2 a3 a4 a5 : Int32} {E : List wCell} {μ μm μ1 μm1 : wMem} {v : Int32} (N : Nat) (hf : fX0_days N   μ = some (v, μ1)) (M : Nat) (hm : fX6_days M  μm = some (v, μm1)) : wO_19 (wZa aE ad adK adV fo) l D ca a1 a2 a3 a4 a5 (spX ++ E) μ μm (spX ++ E) μ1 μm1 :=
  ⟨v, _, _, ⟨Nat.le_of_ble_eq_true rfl, Nat.le_of_ble_eq_true rfl, Nat.le_of_ble_eq_true rfl, Nat.le_of_ble_eq_true rfl, Nat.le_of_ble_eq_true rfl, Nat.le_of_ble_eq_true rfl⟩, fun q => wX_Mi (tX0_days l N μ (v, μ1) hf), fun qm => by
    have h := tX6_days (E := []) (q := qm) (D := D) (ca := ca) l M  μm (v, μm1) hm
    rwa [List.append_nil] at h⟩
theorem wo_20 {aE : Nat} {ad adK adV : Nat → Nat} {fo : Option Nat} {l : Launch} {D : va_G} {ca : wCA} {a1 a2 a3 a4 a5 : Int32} {E : List wCell} {μ μm μ1 μm1 : wMem} {v : Int32} (N : Nat) (hf : fX0_plan N  a1 μ = some (v, μ1)) (M : Nat) (hm : fX6_plan M a1 μm = some (v, μm1)) : wO_20 (wZa aE ad adK adV fo) l D ca a1 a2 a3 a4 a5 (spX ++ E) μ μm (spX ++ E) μ1 μm1 :=
  ⟨v, _, _, ⟨Nat.le_of_ble_eq_true rfl, Nat.le_of_ble_eq_true rfl, Nat.le_of_ble_eq_true rfl, Nat.le_of_ble_eq_true rfl, Nat.le_of_ble_eq_true rfl, Nat.le_of_ble_eq_true rfl⟩, fun q => wX_Mi (tX0_plan l N a1 μ (v, μ1) hf), fun qm => by
    have h := tX6_plan (E := []) (q := qm) (D := D) (ca := ca) l M a1 μm (v, μm1) hm
    rwa [List.append_nil] at h⟩
theorem wo_21 {aE : Nat} {ad adK adV : Nat → Nat} {fo : Option Nat} {l : Launch} {D : va_G} {ca : wCA} {a1 a2 a3 a4 a5 : Int32} {E : List wCell} {μ μm μ1 μm1 : wMem} {v : Int32} (N : Nat) (hf : fX0_surest N   μ = some (v, μ1)) (M : Nat) (hm : fX6_surest M  μm = some (v, μm1)) : wO_21 (wZa aE ad adK adV fo) l D ca a1 a2 a3 a4 a5 (spX ++ E) μ μm (spX ++ E) μ1 μm1 :=
  ⟨v, _, _, ⟨Nat.le_of_ble_eq_true rfl, Nat.le_of_ble_eq_true rfl, Nat.le_of_ble_eq_true rfl, Nat.le_of_ble_eq_true rfl, Nat.le_of_ble_eq_true rfl, Nat.le_of_ble_eq_true rfl⟩, fun q => wX_Mi (tX0_surest l N μ (v, μ1) hf), fun qm => by
    have h := tX6_surest (E := []) (q := qm) (D := D) (ca := ca) l M  μm (v, μm1) hm
    rwa [List.append_nil] at h⟩
theorem wo_22 {aE : Nat} {ad adK adV : Nat → Nat} {fo : Option Nat} {l : Launch} {D : va_G} {ca : wCA} {a1 a2 a3 a4 a5 : Int32} {E : List wCell} {μ μm μ1 μm1 : wMem} {v : Int32} (N : Nat) (hf : fX0_surely N  a1 μ = some (v, μ1)) (M : Nat) (hm : fX6_surely M a1 μm = some (v, μm1)) : wO_22 (wZa aE ad adK adV fo) l D ca a1 a2 a3 a4 a5 (spX ++ E) μ μm (spX ++ E) μ1 μm1 :=
  ⟨v, _, _, ⟨Nat.le_of_ble_eq_true rfl, Nat.le_of_ble_eq_true rfl, Nat.le_of_ble_eq_true rfl, Nat.le_of_ble_eq_true rfl, Nat.le_of_ble_eq_true rfl, Nat.le_of_ble_eq_true rfl⟩, fun q => wX_Mi (tX0_surely l N a1 μ (v, μ1) hf), fun qm => by
    have h := tX6_surely (E := []) (q := qm) (D := D) (ca := ca) l M a1 μm (v, μm1) hm
    rwa [List.append_nil] at h⟩
theorem wo_23 {aE : Nat} {ad adK adV : Nat → Nat} {fo : Option Nat} {l : Launch} {D : va_G} {ca : wCA} {a1 a2 a3 a4 a5 : Int32} {E : List wCell} {μ μm μ1 μm1 : wMem} {v : Int32} (N : Nat) (hf : fX0_slowly N   μ = some (v, μ1)) (M : Nat) (hm : fX6_slowly M  μm = some (v, μm1)) : wO_23 (wZa aE ad adK adV fo) l D ca a1 a2 a3 a4 a5 (spX ++ E) μ μm (spX ++ E) μ1 μm1 :=
  ⟨v, _, _, ⟨Nat.le_of_ble_eq_true rfl, Nat.le_of_ble_eq_true rfl, Nat.le_of_ble_eq_true rfl, Nat.le_of_ble_eq_true rfl, Nat.le_of_ble_eq_true rfl, Nat.le_of_ble_eq_true rfl⟩, fun q => wX_Mi (tX0_slowly l N μ (v, μ1) hf), fun qm => by
    have h := tX6_slowly (E := []) (q := qm) (D := D) (ca := ca) l M  μm (v, μm1) hm
    rwa [List.append_nil] at h⟩
theorem wo_24 {aE : Nat} {ad adK adV : Nat → Nat} {fo : Option Nat} {l : Launch} {D : va_G} {ca : wCA} {a1 a2 a3 a4 a5 : Int32} {E : List wCell} {μ μm μ1 μm1 : wMem} {v : Int32} (N : Nat) (hf : fX0_crossings N   μ = some (v, μ1)) (M : Nat) (hm : fX6_crossings M  μm = some (v, μm1)) : wO_24 (wZa aE ad adK adV fo) l D ca a1 a2 a3 a4 a5 (spX ++ E) μ μm (spX ++ E) μ1 μm1 :=
  ⟨v, _, _, ⟨Nat.le_of_ble_eq_true rfl, Nat.le_of_ble_eq_true rfl, Nat.le_of_ble_eq_true rfl, Nat.le_of_ble_eq_true rfl, Nat.le_of_ble_eq_true rfl, Nat.le_of_ble_eq_true rfl⟩, fun q => wX_Mi (tX0_crossings l N μ (v, μ1) hf), fun qm => by
    have h := tX6_crossings (E := []) (q := qm) (D := D) (ca := ca) l M  μm (v, μm1) hm
    rwa [List.append_nil] at h⟩
theorem wo_25 {aE : Nat} {ad adK adV : Nat → Nat} {fo : Option Nat} {l : Launch} {D : va_G} {ca : wCA} {a1 a2 a3 a4 a5 : Int32} {E : List wCell} {μ μm μ1 μm1 : wMem} {v : Int32} (N : Nat) (hf : fX0_moves N   μ = some (v, μ1)) (M : Nat) (hm : fX6_moves M  μm = some (v, μm1)) : wO_25 (wZa aE ad adK adV fo) l D ca a1 a2 a3 a4 a5 (spX ++ E) μ μm (spX ++ E) μ1 μm1 :=
  ⟨v, _, _, ⟨Nat.le_of_ble_eq_true rfl, Nat.le_of_ble_eq_true rfl, Nat.le_of_ble_eq_true rfl, Nat.le_of_ble_eq_true rfl, Nat.le_of_ble_eq_true rfl, Nat.le_of_ble_eq_true rfl⟩, fun q => wX_Mi (tX0_moves l N μ (v, μ1) hf), fun qm => by
    have h := tX6_moves (E := []) (q := qm) (D := D) (ca := ca) l M  μm (v, μm1) hm
    rwa [List.append_nil] at h⟩
theorem wo_26 {aE : Nat} {ad adK adV : Nat → Nat} {fo : Option Nat} {l : Launch} {D : va_G} {ca : wCA} {a1 a2 a3 a4 a5 : Int32} {E : List wCell} {μ μm μ1 μm1 : wMem} {v : Int64} (N : Nat) (hf : fX0_chance N  a1 μ = some (v, μ1)) (M : Nat) (hm : fX6_chance M a1 μm = some (v, μm1)) : wO_26 (wZa aE ad adK adV fo) l D ca a1 a2 a3 a4 a5 (spX ++ E) μ μm (spX ++ E) μ1 μm1 :=
  ⟨v, _, _, ⟨Nat.le_of_ble_eq_true rfl, Nat.le_of_ble_eq_true rfl, Nat.le_of_ble_eq_true rfl, Nat.le_of_ble_eq_true rfl, Nat.le_of_ble_eq_true rfl, Nat.le_of_ble_eq_true rfl⟩, fun q => wX_Ml (tX0_chance l N a1 μ (v, μ1) hf), fun qm => by
    have h := tX6_chance (E := []) (q := qm) (D := D) (ca := ca) l M a1 μm (v, μm1) hm
    rwa [List.append_nil] at h⟩
theorem wo_27 {aE : Nat} {ad adK adV : Nat → Nat} {fo : Option Nat} {l : Launch} {D : va_G} {ca : wCA} {a1 a2 a3 a4 a5 : Int32} {E : List wCell} {μ μm μ1 μm1 : wMem} {v : Int32} (N : Nat) (hf : fX0_states N   μ = some (v, μ1)) (M : Nat) (hm : fX6_states M  μm = some (v, μm1)) : wO_27 (wZa aE ad adK adV fo) l D ca a1 a2 a3 a4 a5 (spX ++ E) μ μm (spX ++ E) μ1 μm1 :=
  ⟨v, _, _, ⟨Nat.le_of_ble_eq_true rfl, Nat.le_of_ble_eq_true rfl, Nat.le_of_ble_eq_true rfl, Nat.le_of_ble_eq_true rfl, Nat.le_of_ble_eq_true rfl, Nat.le_of_ble_eq_true rfl⟩, fun q => wX_Mi (tX0_states l N μ (v, μ1) hf), fun qm => by
    have h := tX6_states (E := []) (q := qm) (D := D) (ca := ca) l M  μm (v, μm1) hm
    rwa [List.append_nil] at h⟩
theorem wo_28 {aE : Nat} {ad adK adV : Nat → Nat} {fo : Option Nat} {l : Launch} {D : va_G} {ca : wCA} {a1 a2 a3 a4 a5 : Int32} {E : List wCell} {μ μm μ1 μm1 : wMem} {v : Int32} (N : Nat) (hf : fX0_hopeful N   μ = some (v, μ1)) (M : Nat) (hm : fX6_hopeful M  μm = some (v, μm1)) : wO_28 (wZa aE ad adK adV fo) l D ca a1 a2 a3 a4 a5 (spX ++ E) μ μm (spX ++ E) μ1 μm1 :=
  ⟨v, _, _, ⟨Nat.le_of_ble_eq_true rfl, Nat.le_of_ble_eq_true rfl, Nat.le_of_ble_eq_true rfl, Nat.le_of_ble_eq_true rfl, Nat.le_of_ble_eq_true rfl, Nat.le_of_ble_eq_true rfl⟩, fun q => wX_Mi (tX0_hopeful l N μ (v, μ1) hf), fun qm => by
    have h := tX6_hopeful (E := []) (q := qm) (D := D) (ca := ca) l M  μm (v, μm1) hm
    rwa [List.append_nil] at h⟩
theorem wo_29 {aE : Nat} {ad adK adV : Nat → Nat} {fo : Option Nat} {l : Launch} {D : va_G} {ca : wCA} {a1 a2 a3 a4 a5 : Int32} {E : List wCell} {μ μm μ1 μm1 : wMem} {v : Int32} (N : Nat) (hf : fX0_till N  a1 μ = some (v, μ1)) (M : Nat) (hm : fX6_till M a1 μm = some (v, μm1)) : wO_29 (wZa aE ad adK adV fo) l D ca a1 a2 a3 a4 a5 (spX ++ E) μ μm (spX ++ E) μ1 μm1 :=
  ⟨v, _, _, ⟨Nat.le_of_ble_eq_true rfl, Nat.le_of_ble_eq_true rfl, Nat.le_of_ble_eq_true rfl, Nat.le_of_ble_eq_true rfl, Nat.le_of_ble_eq_true rfl, Nat.le_of_ble_eq_true rfl⟩, fun q => wX_Mi (tX0_till l N a1 μ (v, μ1) hf), fun qm => by
    have h := tX6_till (E := []) (q := qm) (D := D) (ca := ca) l M a1 μm (v, μm1) hm
    rwa [List.append_nil] at h⟩
theorem wo_30 {aE : Nat} {ad adK adV : Nat → Nat} {fo : Option Nat} {l : Launch} {D : va_G} {ca : wCA} {a1 a2 a3 a4 a5 : Int32} {E : List wCell} {μ μm μ1 μm1 : wMem} {v : Int32} (N : Nat) (hf : fX0_over N  a1 μ = some (v, μ1)) (M : Nat) (hm : fX6_over M a1 μm = some (v, μm1)) : wO_30 (wZa aE ad adK adV fo) l D ca a1 a2 a3 a4 a5 (spX ++ E) μ μm (spX ++ E) μ1 μm1 :=
  ⟨v, _, _, ⟨Nat.le_of_ble_eq_true rfl, Nat.le_of_ble_eq_true rfl, Nat.le_of_ble_eq_true rfl, Nat.le_of_ble_eq_true rfl, Nat.le_of_ble_eq_true rfl, Nat.le_of_ble_eq_true rfl⟩, fun q => wX_Mi (tX0_over l N a1 μ (v, μ1) hf), fun qm => by
    have h := tX6_over (E := []) (q := qm) (D := D) (ca := ca) l M a1 μm (v, μm1) hm
    rwa [List.append_nil] at h⟩
theorem wo_31 {aE : Nat} {ad adK adV : Nat → Nat} {fo : Option Nat} {l : Launch} {D : va_G} {ca : wCA} {a1 a2 a3 a4 a5 : Int32} {E : List wCell} {μ μm μ1 μm1 : wMem} {v : Int32} (N : Nat) (hf : fX0_never N   μ = some (v, μ1)) (M : Nat) (hm : fX6_never M  μm = some (v, μm1)) : wO_31 (wZa aE ad adK adV fo) l D ca a1 a2 a3 a4 a5 (spX ++ E) μ μm (spX ++ E) μ1 μm1 :=
  ⟨v, _, _, ⟨Nat.le_of_ble_eq_true rfl, Nat.le_of_ble_eq_true rfl, Nat.le_of_ble_eq_true rfl, Nat.le_of_ble_eq_true rfl, Nat.le_of_ble_eq_true rfl, Nat.le_of_ble_eq_true rfl⟩, fun q => wX_Mi (tX0_never l N μ (v, μ1) hf), fun qm => by
    have h := tX6_never (E := []) (q := qm) (D := D) (ca := ca) l M  μm (v, μm1) hm
    rwa [List.append_nil] at h⟩
theorem wo_32 {aE : Nat} {ad adK adV : Nat → Nat} {fo : Option Nat} {l : Launch} {D : va_G} {ca : wCA} {a1 a2 a3 a4 a5 : Int32} {E : List wCell} {μ μm μ1 μm1 : wMem} {v : Int32} (N : Nat) (hf : fX0_lost N  a1 μ = some (v, μ1)) (M : Nat) (hm : fX6_lost M a1 μm = some (v, μm1)) : wO_32 (wZa aE ad adK adV fo) l D ca a1 a2 a3 a4 a5 (spX ++ E) μ μm (spX ++ E) μ1 μm1 :=
  ⟨v, _, _, ⟨Nat.le_of_ble_eq_true rfl, Nat.le_of_ble_eq_true rfl, Nat.le_of_ble_eq_true rfl, Nat.le_of_ble_eq_true rfl, Nat.le_of_ble_eq_true rfl, Nat.le_of_ble_eq_true rfl⟩, fun q => wX_Mi (tX0_lost l N a1 μ (v, μ1) hf), fun qm => by
    have h := tX6_lost (E := []) (q := qm) (D := D) (ca := ca) l M a1 μm (v, μm1) hm
    rwa [List.append_nil] at h⟩
theorem wo_33 {aE : Nat} {ad adK adV : Nat → Nat} {fo : Option Nat} {l : Launch} {D : va_G} {ca : wCA} {a1 a2 a3 a4 a5 : Int32} {E : List wCell} {μ μm μ1 μm1 : wMem} {v : Int32} (N : Nat) (hf : fX0_worst N   μ = some (v, μ1)) (M : Nat) (hm : fX6_worst M  μm = some (v, μm1)) : wO_33 (wZa aE ad adK adV fo) l D ca a1 a2 a3 a4 a5 (spX ++ E) μ μm (spX ++ E) μ1 μm1 :=
  ⟨v, _, _, ⟨Nat.le_of_ble_eq_true rfl, Nat.le_of_ble_eq_true rfl, Nat.le_of_ble_eq_true rfl, Nat.le_of_ble_eq_true rfl, Nat.le_of_ble_eq_true rfl, Nat.le_of_ble_eq_true rfl⟩, fun q => wX_Mi (tX0_worst l N μ (v, μ1) hf), fun qm => by
    have h := tX6_worst (E := []) (q := qm) (D := D) (ca := ca) l M  μm (v, μm1) hm
    rwa [List.append_nil] at h⟩
theorem wo_34 {aE : Nat} {ad adK adV : Nat → Nat} {fo : Option Nat} {l : Launch} {D : va_G} {ca : wCA} {a1 a2 a3 a4 a5 : Int32} {E : List wCell} {μ μm μ1 μm1 : wMem} {v : Int32} (hE : wSlots ca (spX ++ E)) (N : Nat) (c0 t n : Nat) (hi1 : ok_in a1 4 = true) (hb : (spX ++ E)[24 + a1.toNatClampNeg]? = some (.inl (5, [(2, c0)]))) (hr : wRow (spX ++ E) c0 t n) (hf : fX0_judge N c0 t n  a1 μ = some (v, μ1)) (M : Nat) (hm : fX6_judge M a1 μm = some (v, μm1)) : wO_34 (wZa aE ad adK adV fo) l D ca a1 a2 a3 a4 a5 (spX ++ E) μ μm (spX ++ E) μ1 μm1 :=
  ⟨v, _, _, ⟨Nat.le_of_ble_eq_true rfl, Nat.le_of_ble_eq_true rfl, Nat.le_of_ble_eq_true rfl, Nat.le_of_ble_eq_true rfl, Nat.le_of_ble_eq_true rfl, Nat.le_of_ble_eq_true rfl⟩, fun q => wX_Mi (tX0_judge l hE N c0 t n a1 μ (v, μ1) hi1 hb hr hf), fun qm => by
    have h := tX6_judge (E := []) (q := qm) (D := D) (ca := ca) l M a1 μm (v, μm1) hm
    rwa [List.append_nil] at h⟩
theorem won_34 {aE : Nat} {ad adK adV : Nat → Nat} {fo : Option Nat} {l : Launch} {D : va_G} {ca : wCA} {a1 a2 a3 a4 a5 : Int32} {E : List wCell} {μ μm μ1 μm1 : wMem} {v : Int32} (hl : l.stackTraces = false) (hE : wSlots ca (spX ++ E)) (N : Nat) {x0 : Nat} (hi1 : ok_in a1 4 = true) (hb : (spX ++ E)[24 + a1.toNatClampNeg]? = some (.inl (5, [(3, x0)]))) (hf : fnX0_judge N  a1 μ = some (v, μ1)) (M : Nat) (hm : fX6_judge M a1 μm = some (v, μm1)) : wO_34 (wZa aE ad adK adV fo) l D ca a1 a2 a3 a4 a5 (spX ++ E) μ μm (spX ++ E) μ1 μm1 :=
  ⟨v, _, _, ⟨Nat.le_of_ble_eq_true rfl, Nat.le_of_ble_eq_true rfl, Nat.le_of_ble_eq_true rfl, Nat.le_of_ble_eq_true rfl, Nat.le_of_ble_eq_true rfl, Nat.le_of_ble_eq_true rfl⟩, fun q => wX_MiZ (tnX0_judge l hl hE N a1 μ (v, μ1) hi1 hb hf), fun qm => by
    have h := tX6_judge (E := []) (q := qm) (D := D) (ca := ca) l M a1 μm (v, μm1) hm
    rwa [List.append_nil] at h⟩
theorem wob_34 {aE : Nat} {ad adK adV : Nat → Nat} {fo : Option Nat} {l : Launch} {D : va_G} {ca : wCA} {a1 a2 a3 a4 a5 : Int32} {E : List wCell} {μ μm μ1 μm1 : wMem} {v : Int32} (N : Nat) (hf : fbX0_judge N  a1 μ = some (v, μ1)) (M : Nat) (hm : fX6_judge M a1 μm = some (v, μm1)) : wO_34 (wZa aE ad adK adV fo) l D ca a1 a2 a3 a4 a5 (spX ++ E) μ μm (spX ++ E) μ1 μm1 :=
  ⟨v, _, _, ⟨Nat.le_of_ble_eq_true rfl, Nat.le_of_ble_eq_true rfl, Nat.le_of_ble_eq_true rfl, Nat.le_of_ble_eq_true rfl, Nat.le_of_ble_eq_true rfl, Nat.le_of_ble_eq_true rfl⟩, fun q => wX_Mi (tbX0_judge l N a1 μ (v, μ1) hf), fun qm => by
    have h := tX6_judge (E := []) (q := qm) (D := D) (ca := ca) l M a1 μm (v, μm1) hm
    rwa [List.append_nil] at h⟩
theorem wo_35 {aE : Nat} {ad adK adV : Nat → Nat} {fo : Option Nat} {l : Launch} {D : va_G} {ca : wCA} {a1 a2 a3 a4 a5 : Int32} {E : List wCell} {μ μm μ1 μm1 : wMem} {v : Int32} (hE : wSlots ca (spX ++ E)) (N : Nat) (c0 t n : Nat) (hi1 : ok_in a1 4 = true) (hb : (spX ++ E)[24 + a1.toNatClampNeg]? = some (.inl (5, [(2, c0)]))) (hr : wRow (spX ++ E) c0 t n) (hf : fX0_there N c0 t n  a1 μ = some (v, μ1)) (M : Nat) (hm : fX6_there M a1 μm = some (v, μm1)) : wO_35 (wZa aE ad adK adV fo) l D ca a1 a2 a3 a4 a5 (spX ++ E) μ μm (spX ++ E) μ1 μm1 :=
  ⟨v, _, _, ⟨Nat.le_of_ble_eq_true rfl, Nat.le_of_ble_eq_true rfl, Nat.le_of_ble_eq_true rfl, Nat.le_of_ble_eq_true rfl, Nat.le_of_ble_eq_true rfl, Nat.le_of_ble_eq_true rfl⟩, fun q => wX_Mi (tX0_there l hE N c0 t n a1 μ (v, μ1) hi1 hb hr hf), fun qm => by
    have h := tX6_there (E := []) (q := qm) (D := D) (ca := ca) l M a1 μm (v, μm1) hm
    rwa [List.append_nil] at h⟩
theorem won_35 {aE : Nat} {ad adK adV : Nat → Nat} {fo : Option Nat} {l : Launch} {D : va_G} {ca : wCA} {a1 a2 a3 a4 a5 : Int32} {E : List wCell} {μ μm μ1 μm1 : wMem} {v : Int32} (hl : l.stackTraces = false) (hE : wSlots ca (spX ++ E)) (N : Nat) {x0 : Nat} (hi1 : ok_in a1 4 = true) (hb : (spX ++ E)[24 + a1.toNatClampNeg]? = some (.inl (5, [(3, x0)]))) (hf : fnX0_there N  a1 μ = some (v, μ1)) (M : Nat) (hm : fX6_there M a1 μm = some (v, μm1)) : wO_35 (wZa aE ad adK adV fo) l D ca a1 a2 a3 a4 a5 (spX ++ E) μ μm (spX ++ E) μ1 μm1 :=
  ⟨v, _, _, ⟨Nat.le_of_ble_eq_true rfl, Nat.le_of_ble_eq_true rfl, Nat.le_of_ble_eq_true rfl, Nat.le_of_ble_eq_true rfl, Nat.le_of_ble_eq_true rfl, Nat.le_of_ble_eq_true rfl⟩, fun q => wX_MiZ (tnX0_there l hl hE N a1 μ (v, μ1) hi1 hb hf), fun qm => by
    have h := tX6_there (E := []) (q := qm) (D := D) (ca := ca) l M a1 μm (v, μm1) hm
    rwa [List.append_nil] at h⟩
theorem wob_35 {aE : Nat} {ad adK adV : Nat → Nat} {fo : Option Nat} {l : Launch} {D : va_G} {ca : wCA} {a1 a2 a3 a4 a5 : Int32} {E : List wCell} {μ μm μ1 μm1 : wMem} {v : Int32} (N : Nat) (hf : fbX0_there N  a1 μ = some (v, μ1)) (M : Nat) (hm : fX6_there M a1 μm = some (v, μm1)) : wO_35 (wZa aE ad adK adV fo) l D ca a1 a2 a3 a4 a5 (spX ++ E) μ μm (spX ++ E) μ1 μm1 :=
  ⟨v, _, _, ⟨Nat.le_of_ble_eq_true rfl, Nat.le_of_ble_eq_true rfl, Nat.le_of_ble_eq_true rfl, Nat.le_of_ble_eq_true rfl, Nat.le_of_ble_eq_true rfl, Nat.le_of_ble_eq_true rfl⟩, fun q => wX_Mi (tbX0_there l N a1 μ (v, μ1) hf), fun qm => by
    have h := tX6_there (E := []) (q := qm) (D := D) (ca := ca) l M a1 μm (v, μm1) hm
    rwa [List.append_nil] at h⟩
theorem wo_36 {aE : Nat} {ad adK adV : Nat → Nat} {fo : Option Nat} {l : Launch} {D : va_G} {ca : wCA} {a1 a2 a3 a4 a5 : Int32} {E : List wCell} {μ μm μ1 μm1 : wMem} {v : Int32} (hE : wSlots ca (spX ++ E)) (N : Nat) (c0 t n : Nat) (hi1 : ok_in a1 4 = true) (hb : (spX ++ E)[24 + a1.toNatClampNeg]? = some (.inl (5, [(2, c0)]))) (hr : wRow (spX ++ E) c0 t n) (hf : fX0_takes N c0 t n  a1 μ = some (v, μ1)) (M : Nat) (hm : fX6_takes_2 M a1 μm = some (v, μm1)) : wO_36 (wZa aE ad adK adV fo) l D ca a1 a2 a3 a4 a5 (spX ++ E) μ μm (spX ++ E) μ1 μm1 :=
  ⟨v, _, _, ⟨Nat.le_of_ble_eq_true rfl, Nat.le_of_ble_eq_true rfl, Nat.le_of_ble_eq_true rfl, Nat.le_of_ble_eq_true rfl, Nat.le_of_ble_eq_true rfl, Nat.le_of_ble_eq_true rfl⟩, fun q => wX_Mi (tX0_takes l hE N c0 t n a1 μ (v, μ1) hi1 hb hr hf), fun qm => by
    have h := tX6_takes_2 (E := []) (q := qm) (D := D) (ca := ca) l M a1 μm (v, μm1) hm
    rwa [List.append_nil] at h⟩
theorem won_36 {aE : Nat} {ad adK adV : Nat → Nat} {fo : Option Nat} {l : Launch} {D : va_G} {ca : wCA} {a1 a2 a3 a4 a5 : Int32} {E : List wCell} {μ μm μ1 μm1 : wMem} {v : Int32} (hl : l.stackTraces = false) (hE : wSlots ca (spX ++ E)) (N : Nat) {x0 : Nat} (hi1 : ok_in a1 4 = true) (hb : (spX ++ E)[24 + a1.toNatClampNeg]? = some (.inl (5, [(3, x0)]))) (hf : fnX0_takes N  a1 μ = some (v, μ1)) (M : Nat) (hm : fX6_takes_2 M a1 μm = some (v, μm1)) : wO_36 (wZa aE ad adK adV fo) l D ca a1 a2 a3 a4 a5 (spX ++ E) μ μm (spX ++ E) μ1 μm1 :=
  ⟨v, _, _, ⟨Nat.le_of_ble_eq_true rfl, Nat.le_of_ble_eq_true rfl, Nat.le_of_ble_eq_true rfl, Nat.le_of_ble_eq_true rfl, Nat.le_of_ble_eq_true rfl, Nat.le_of_ble_eq_true rfl⟩, fun q => wX_MiZ (tnX0_takes l hl hE N a1 μ (v, μ1) hi1 hb hf), fun qm => by
    have h := tX6_takes_2 (E := []) (q := qm) (D := D) (ca := ca) l M a1 μm (v, μm1) hm
    rwa [List.append_nil] at h⟩
theorem wob_36 {aE : Nat} {ad adK adV : Nat → Nat} {fo : Option Nat} {l : Launch} {D : va_G} {ca : wCA} {a1 a2 a3 a4 a5 : Int32} {E : List wCell} {μ μm μ1 μm1 : wMem} {v : Int32} (N : Nat) (hf : fbX0_takes N  a1 μ = some (v, μ1)) (M : Nat) (hm : fX6_takes_2 M a1 μm = some (v, μm1)) : wO_36 (wZa aE ad adK adV fo) l D ca a1 a2 a3 a4 a5 (spX ++ E) μ μm (spX ++ E) μ1 μm1 :=
  ⟨v, _, _, ⟨Nat.le_of_ble_eq_true rfl, Nat.le_of_ble_eq_true rfl, Nat.le_of_ble_eq_true rfl, Nat.le_of_ble_eq_true rfl, Nat.le_of_ble_eq_true rfl, Nat.le_of_ble_eq_true rfl⟩, fun q => wX_Mi (tbX0_takes l N a1 μ (v, μ1) hf), fun qm => by
    have h := tX6_takes_2 (E := []) (q := qm) (D := D) (ca := ca) l M a1 μm (v, μm1) hm
    rwa [List.append_nil] at h⟩
theorem wo_37 {aE : Nat} {ad adK adV : Nat → Nat} {fo : Option Nat} {l : Launch} {D : va_G} {ca : wCA} {a1 a2 a3 a4 a5 : Int32} {E : List wCell} {μ μm μ1 μm1 : wMem} {v : Int32} (hE : wSlots ca (spX ++ E)) (N : Nat) (c0 t n : Nat) (hi1 : ok_in a1 4 = true) (hb : (spX ++ E)[24 + a1.toNatClampNeg]? = some (.inl (5, [(2, c0)]))) (hr : wRow (spX ++ E) c0 t n) (hf : fX0_dares N c0 t n  a1 μ = some (v, μ1)) (M : Nat) (hm : fX6_dares M a1 μm = some (v, μm1)) : wO_37 (wZa aE ad adK adV fo) l D ca a1 a2 a3 a4 a5 (spX ++ E) μ μm (spX ++ E) μ1 μm1 :=
  ⟨v, _, _, ⟨Nat.le_of_ble_eq_true rfl, Nat.le_of_ble_eq_true rfl, Nat.le_of_ble_eq_true rfl, Nat.le_of_ble_eq_true rfl, Nat.le_of_ble_eq_true rfl, Nat.le_of_ble_eq_true rfl⟩, fun q => wX_Mi (tX0_dares l hE N c0 t n a1 μ (v, μ1) hi1 hb hr hf), fun qm => by
    have h := tX6_dares (E := []) (q := qm) (D := D) (ca := ca) l M a1 μm (v, μm1) hm
    rwa [List.append_nil] at h⟩
theorem won_37 {aE : Nat} {ad adK adV : Nat → Nat} {fo : Option Nat} {l : Launch} {D : va_G} {ca : wCA} {a1 a2 a3 a4 a5 : Int32} {E : List wCell} {μ μm μ1 μm1 : wMem} {v : Int32} (hl : l.stackTraces = false) (hE : wSlots ca (spX ++ E)) (N : Nat) {x0 : Nat} (hi1 : ok_in a1 4 = true) (hb : (spX ++ E)[24 + a1.toNatClampNeg]? = some (.inl (5, [(3, x0)]))) (hf : fnX0_dares N  a1 μ = some (v, μ1)) (M : Nat) (hm : fX6_dares M a1 μm = some (v, μm1)) : wO_37 (wZa aE ad adK adV fo) l D ca a1 a2 a3 a4 a5 (spX ++ E) μ μm (spX ++ E) μ1 μm1 :=
  ⟨v, _, _, ⟨Nat.le_of_ble_eq_true rfl, Nat.le_of_ble_eq_true rfl, Nat.le_of_ble_eq_true rfl, Nat.le_of_ble_eq_true rfl, Nat.le_of_ble_eq_true rfl, Nat.le_of_ble_eq_true rfl⟩, fun q => wX_MiZ (tnX0_dares l hl hE N a1 μ (v, μ1) hi1 hb hf), fun qm => by
    have h := tX6_dares (E := []) (q := qm) (D := D) (ca := ca) l M a1 μm (v, μm1) hm
    rwa [List.append_nil] at h⟩
theorem wob_37 {aE : Nat} {ad adK adV : Nat → Nat} {fo : Option Nat} {l : Launch} {D : va_G} {ca : wCA} {a1 a2 a3 a4 a5 : Int32} {E : List wCell} {μ μm μ1 μm1 : wMem} {v : Int32} (N : Nat) (hf : fbX0_dares N  a1 μ = some (v, μ1)) (M : Nat) (hm : fX6_dares M a1 μm = some (v, μm1)) : wO_37 (wZa aE ad adK adV fo) l D ca a1 a2 a3 a4 a5 (spX ++ E) μ μm (spX ++ E) μ1 μm1 :=
  ⟨v, _, _, ⟨Nat.le_of_ble_eq_true rfl, Nat.le_of_ble_eq_true rfl, Nat.le_of_ble_eq_true rfl, Nat.le_of_ble_eq_true rfl, Nat.le_of_ble_eq_true rfl, Nat.le_of_ble_eq_true rfl⟩, fun q => wX_Mi (tbX0_dares l N a1 μ (v, μ1) hf), fun qm => by
    have h := tX6_dares (E := []) (q := qm) (D := D) (ca := ca) l M a1 μm (v, μm1) hm
    rwa [List.append_nil] at h⟩
theorem wo_38 {aE : Nat} {ad adK adV : Nat → Nat} {fo : Option Nat} {l : Launch} {D : va_G} {ca : wCA} {a1 a2 a3 a4 a5 : Int32} {E : List wCell} {μ μm μ1 μm1 : wMem} {v : Int32} (hE : wSlots ca (spX ++ E)) (N : Nat) (c0 t n : Nat) (hi1 : ok_in a1 4 = true) (hb : (spX ++ E)[24 + a1.toNatClampNeg]? = some (.inl (5, [(2, c0)]))) (hr : wRow (spX ++ E) c0 t n) (hf : fX0_lied N c0 t n  a1 μ = some (v, μ1)) (M : Nat) (hm : fX6_lied M a1 μm = some (v, μm1)) : wO_38 (wZa aE ad adK adV fo) l D ca a1 a2 a3 a4 a5 (spX ++ E) μ μm (spX ++ E) μ1 μm1 :=
  ⟨v, _, _, ⟨Nat.le_of_ble_eq_true rfl, Nat.le_of_ble_eq_true rfl, Nat.le_of_ble_eq_true rfl, Nat.le_of_ble_eq_true rfl, Nat.le_of_ble_eq_true rfl, Nat.le_of_ble_eq_true rfl⟩, fun q => wX_Mi (tX0_lied l hE N c0 t n a1 μ (v, μ1) hi1 hb hr hf), fun qm => by
    have h := tX6_lied (E := []) (q := qm) (D := D) (ca := ca) l M a1 μm (v, μm1) hm
    rwa [List.append_nil] at h⟩
theorem won_38 {aE : Nat} {ad adK adV : Nat → Nat} {fo : Option Nat} {l : Launch} {D : va_G} {ca : wCA} {a1 a2 a3 a4 a5 : Int32} {E : List wCell} {μ μm μ1 μm1 : wMem} {v : Int32} (hl : l.stackTraces = false) (hE : wSlots ca (spX ++ E)) (N : Nat) {x0 : Nat} (hi1 : ok_in a1 4 = true) (hb : (spX ++ E)[24 + a1.toNatClampNeg]? = some (.inl (5, [(3, x0)]))) (hf : fnX0_lied N  a1 μ = some (v, μ1)) (M : Nat) (hm : fX6_lied M a1 μm = some (v, μm1)) : wO_38 (wZa aE ad adK adV fo) l D ca a1 a2 a3 a4 a5 (spX ++ E) μ μm (spX ++ E) μ1 μm1 :=
  ⟨v, _, _, ⟨Nat.le_of_ble_eq_true rfl, Nat.le_of_ble_eq_true rfl, Nat.le_of_ble_eq_true rfl, Nat.le_of_ble_eq_true rfl, Nat.le_of_ble_eq_true rfl, Nat.le_of_ble_eq_true rfl⟩, fun q => wX_MiZ (tnX0_lied l hl hE N a1 μ (v, μ1) hi1 hb hf), fun qm => by
    have h := tX6_lied (E := []) (q := qm) (D := D) (ca := ca) l M a1 μm (v, μm1) hm
    rwa [List.append_nil] at h⟩
theorem wob_38 {aE : Nat} {ad adK adV : Nat → Nat} {fo : Option Nat} {l : Launch} {D : va_G} {ca : wCA} {a1 a2 a3 a4 a5 : Int32} {E : List wCell} {μ μm μ1 μm1 : wMem} {v : Int32} (N : Nat) (hf : fbX0_lied N  a1 μ = some (v, μ1)) (M : Nat) (hm : fX6_lied M a1 μm = some (v, μm1)) : wO_38 (wZa aE ad adK adV fo) l D ca a1 a2 a3 a4 a5 (spX ++ E) μ μm (spX ++ E) μ1 μm1 :=
  ⟨v, _, _, ⟨Nat.le_of_ble_eq_true rfl, Nat.le_of_ble_eq_true rfl, Nat.le_of_ble_eq_true rfl, Nat.le_of_ble_eq_true rfl, Nat.le_of_ble_eq_true rfl, Nat.le_of_ble_eq_true rfl⟩, fun q => wX_Mi (tbX0_lied l N a1 μ (v, μ1) hf), fun qm => by
    have h := tX6_lied (E := []) (q := qm) (D := D) (ca := ca) l M a1 μm (v, μm1) hm
    rwa [List.append_nil] at h⟩
theorem wo_39 {aE : Nat} {ad adK adV : Nat → Nat} {fo : Option Nat} {l : Launch} {D : va_G} {ca : wCA} {a1 a2 a3 a4 a5 : Int32} {E : List wCell} {μ μm μ1 μm1 : wMem} {v : Int64} (hE : wSlots ca (spX ++ E)) (N : Nat) (c0 t n : Nat) (hi1 : ok_in a1 4 = true) (hb : (spX ++ E)[24 + a1.toNatClampNeg]? = some (.inl (5, [(2, c0)]))) (hr : wRow (spX ++ E) c0 t n) (hf : fX0_stamped N c0 t n  a1 μ = some (v, μ1)) (M : Nat) (hm : fX6_stamped M a1 μm = some (v, μm1)) : wO_39 (wZa aE ad adK adV fo) l D ca a1 a2 a3 a4 a5 (spX ++ E) μ μm (spX ++ E) μ1 μm1 :=
  ⟨v, _, _, ⟨Nat.le_of_ble_eq_true rfl, Nat.le_of_ble_eq_true rfl, Nat.le_of_ble_eq_true rfl, Nat.le_of_ble_eq_true rfl, Nat.le_of_ble_eq_true rfl, Nat.le_of_ble_eq_true rfl⟩, fun q => wX_Ml (tX0_stamped l hE N c0 t n a1 μ (v, μ1) hi1 hb hr hf), fun qm => by
    have h := tX6_stamped (E := []) (q := qm) (D := D) (ca := ca) l M a1 μm (v, μm1) hm
    rwa [List.append_nil] at h⟩
theorem won_39 {aE : Nat} {ad adK adV : Nat → Nat} {fo : Option Nat} {l : Launch} {D : va_G} {ca : wCA} {a1 a2 a3 a4 a5 : Int32} {E : List wCell} {μ μm μ1 μm1 : wMem} {v : Int64} (hl : l.stackTraces = false) (hE : wSlots ca (spX ++ E)) (N : Nat) {x0 : Nat} (hi1 : ok_in a1 4 = true) (hb : (spX ++ E)[24 + a1.toNatClampNeg]? = some (.inl (5, [(3, x0)]))) (hf : fnX0_stamped N  a1 μ = some (v, μ1)) (M : Nat) (hm : fX6_stamped M a1 μm = some (v, μm1)) : wO_39 (wZa aE ad adK adV fo) l D ca a1 a2 a3 a4 a5 (spX ++ E) μ μm (spX ++ E) μ1 μm1 :=
  ⟨v, _, _, ⟨Nat.le_of_ble_eq_true rfl, Nat.le_of_ble_eq_true rfl, Nat.le_of_ble_eq_true rfl, Nat.le_of_ble_eq_true rfl, Nat.le_of_ble_eq_true rfl, Nat.le_of_ble_eq_true rfl⟩, fun q => wX_MlZ (tnX0_stamped l hl hE N a1 μ (v, μ1) hi1 hb hf), fun qm => by
    have h := tX6_stamped (E := []) (q := qm) (D := D) (ca := ca) l M a1 μm (v, μm1) hm
    rwa [List.append_nil] at h⟩
theorem wob_39 {aE : Nat} {ad adK adV : Nat → Nat} {fo : Option Nat} {l : Launch} {D : va_G} {ca : wCA} {a1 a2 a3 a4 a5 : Int32} {E : List wCell} {μ μm μ1 μm1 : wMem} {v : Int64} (N : Nat) (hf : fbX0_stamped N  a1 μ = some (v, μ1)) (M : Nat) (hm : fX6_stamped M a1 μm = some (v, μm1)) : wO_39 (wZa aE ad adK adV fo) l D ca a1 a2 a3 a4 a5 (spX ++ E) μ μm (spX ++ E) μ1 μm1 :=
  ⟨v, _, _, ⟨Nat.le_of_ble_eq_true rfl, Nat.le_of_ble_eq_true rfl, Nat.le_of_ble_eq_true rfl, Nat.le_of_ble_eq_true rfl, Nat.le_of_ble_eq_true rfl, Nat.le_of_ble_eq_true rfl⟩, fun q => wX_Ml (tbX0_stamped l N a1 μ (v, μ1) hf), fun qm => by
    have h := tX6_stamped (E := []) (q := qm) (D := D) (ca := ca) l M a1 μm (v, μm1) hm
    rwa [List.append_nil] at h⟩
theorem wo_40 {aE : Nat} {ad adK adV : Nat → Nat} {fo : Option Nat} {l : Launch} {D : va_G} {ca : wCA} {a1 a2 a3 a4 a5 : Int32} {E : List wCell} {μ μm μ1 μm1 : wMem} {v : Int32} (hE : wSlots ca (spX ++ E)) (N : Nat) (c0 t n : Nat) (hi1 : ok_in a1 4 = true) (hb : (spX ++ E)[24 + a1.toNatClampNeg]? = some (.inl (5, [(2, c0)]))) (hr : wRow (spX ++ E) c0 t n) (hf : fX0_had N c0 t n  a1 a2 μ = some (v, μ1)) (M : Nat) (hm : fX6_had M a1 a2 μm = some (v, μm1)) : wO_40 (wZa aE ad adK adV fo) l D ca a1 a2 a3 a4 a5 (spX ++ E) μ μm (spX ++ E) μ1 μm1 :=
  ⟨v, _, _, ⟨Nat.le_of_ble_eq_true rfl, Nat.le_of_ble_eq_true rfl, Nat.le_of_ble_eq_true rfl, Nat.le_of_ble_eq_true rfl, Nat.le_of_ble_eq_true rfl, Nat.le_of_ble_eq_true rfl⟩, fun q => wX_Mi (tX0_had l hE N c0 t n a1 a2 μ (v, μ1) hi1 hb hr hf), fun qm => by
    have h := tX6_had (E := []) (q := qm) (D := D) (ca := ca) l M a1 a2 μm (v, μm1) hm
    rwa [List.append_nil] at h⟩
theorem won_40 {aE : Nat} {ad adK adV : Nat → Nat} {fo : Option Nat} {l : Launch} {D : va_G} {ca : wCA} {a1 a2 a3 a4 a5 : Int32} {E : List wCell} {μ μm μ1 μm1 : wMem} {v : Int32} (hl : l.stackTraces = false) (hE : wSlots ca (spX ++ E)) (N : Nat) {x0 : Nat} (hi1 : ok_in a1 4 = true) (hb : (spX ++ E)[24 + a1.toNatClampNeg]? = some (.inl (5, [(3, x0)]))) (hf : fnX0_had N  a1 a2 μ = some (v, μ1)) (M : Nat) (hm : fX6_had M a1 a2 μm = some (v, μm1)) : wO_40 (wZa aE ad adK adV fo) l D ca a1 a2 a3 a4 a5 (spX ++ E) μ μm (spX ++ E) μ1 μm1 :=
  ⟨v, _, _, ⟨Nat.le_of_ble_eq_true rfl, Nat.le_of_ble_eq_true rfl, Nat.le_of_ble_eq_true rfl, Nat.le_of_ble_eq_true rfl, Nat.le_of_ble_eq_true rfl, Nat.le_of_ble_eq_true rfl⟩, fun q => wX_MiZ (tnX0_had l hl hE N a1 a2 μ (v, μ1) hi1 hb hf), fun qm => by
    have h := tX6_had (E := []) (q := qm) (D := D) (ca := ca) l M a1 a2 μm (v, μm1) hm
    rwa [List.append_nil] at h⟩
theorem wob_40 {aE : Nat} {ad adK adV : Nat → Nat} {fo : Option Nat} {l : Launch} {D : va_G} {ca : wCA} {a1 a2 a3 a4 a5 : Int32} {E : List wCell} {μ μm μ1 μm1 : wMem} {v : Int32} (N : Nat) (hf : fbX0_had N  a1 a2 μ = some (v, μ1)) (M : Nat) (hm : fX6_had M a1 a2 μm = some (v, μm1)) : wO_40 (wZa aE ad adK adV fo) l D ca a1 a2 a3 a4 a5 (spX ++ E) μ μm (spX ++ E) μ1 μm1 :=
  ⟨v, _, _, ⟨Nat.le_of_ble_eq_true rfl, Nat.le_of_ble_eq_true rfl, Nat.le_of_ble_eq_true rfl, Nat.le_of_ble_eq_true rfl, Nat.le_of_ble_eq_true rfl, Nat.le_of_ble_eq_true rfl⟩, fun q => wX_Mi (tbX0_had l N a1 a2 μ (v, μ1) hf), fun qm => by
    have h := tX6_had (E := []) (q := qm) (D := D) (ca := ca) l M a1 a2 μm (v, μm1) hm
    rwa [List.append_nil] at h⟩
theorem wo_41 {aE : Nat} {ad adK adV : Nat → Nat} {fo : Option Nat} {l : Launch} {D : va_G} {ca : wCA} {a1 a2 a3 a4 a5 : Int32} {E : List wCell} {μ μm μ1 μm1 : wMem} {v : Int32} (hE : wSlots ca (spX ++ E)) (N : Nat) (c0 t n : Nat) (hi1 : ok_in a1 4 = true) (hb : (spX ++ E)[24 + a1.toNatClampNeg]? = some (.inl (5, [(2, c0)]))) (hr : wRow (spX ++ E) c0 t n) (hf : fX0_sure N c0 t n  a1 a2 μ = some (v, μ1)) (M : Nat) (hm : fX6_sure M a1 a2 μm = some (v, μm1)) : wO_41 (wZa aE ad adK adV fo) l D ca a1 a2 a3 a4 a5 (spX ++ E) μ μm (spX ++ E) μ1 μm1 :=
  ⟨v, _, _, ⟨Nat.le_of_ble_eq_true rfl, Nat.le_of_ble_eq_true rfl, Nat.le_of_ble_eq_true rfl, Nat.le_of_ble_eq_true rfl, Nat.le_of_ble_eq_true rfl, Nat.le_of_ble_eq_true rfl⟩, fun q => wX_Mi (tX0_sure l hE N c0 t n a1 a2 μ (v, μ1) hi1 hb hr hf), fun qm => by
    have h := tX6_sure (E := []) (q := qm) (D := D) (ca := ca) l M a1 a2 μm (v, μm1) hm
    rwa [List.append_nil] at h⟩
theorem won_41 {aE : Nat} {ad adK adV : Nat → Nat} {fo : Option Nat} {l : Launch} {D : va_G} {ca : wCA} {a1 a2 a3 a4 a5 : Int32} {E : List wCell} {μ μm μ1 μm1 : wMem} {v : Int32} (hl : l.stackTraces = false) (hE : wSlots ca (spX ++ E)) (N : Nat) {x0 : Nat} (hi1 : ok_in a1 4 = true) (hb : (spX ++ E)[24 + a1.toNatClampNeg]? = some (.inl (5, [(3, x0)]))) (hf : fnX0_sure N  a1 a2 μ = some (v, μ1)) (M : Nat) (hm : fX6_sure M a1 a2 μm = some (v, μm1)) : wO_41 (wZa aE ad adK adV fo) l D ca a1 a2 a3 a4 a5 (spX ++ E) μ μm (spX ++ E) μ1 μm1 :=
  ⟨v, _, _, ⟨Nat.le_of_ble_eq_true rfl, Nat.le_of_ble_eq_true rfl, Nat.le_of_ble_eq_true rfl, Nat.le_of_ble_eq_true rfl, Nat.le_of_ble_eq_true rfl, Nat.le_of_ble_eq_true rfl⟩, fun q => wX_MiZ (tnX0_sure l hl hE N a1 a2 μ (v, μ1) hi1 hb hf), fun qm => by
    have h := tX6_sure (E := []) (q := qm) (D := D) (ca := ca) l M a1 a2 μm (v, μm1) hm
    rwa [List.append_nil] at h⟩
theorem wob_41 {aE : Nat} {ad adK adV : Nat → Nat} {fo : Option Nat} {l : Launch} {D : va_G} {ca : wCA} {a1 a2 a3 a4 a5 : Int32} {E : List wCell} {μ μm μ1 μm1 : wMem} {v : Int32} (N : Nat) (hf : fbX0_sure N  a1 a2 μ = some (v, μ1)) (M : Nat) (hm : fX6_sure M a1 a2 μm = some (v, μm1)) : wO_41 (wZa aE ad adK adV fo) l D ca a1 a2 a3 a4 a5 (spX ++ E) μ μm (spX ++ E) μ1 μm1 :=
  ⟨v, _, _, ⟨Nat.le_of_ble_eq_true rfl, Nat.le_of_ble_eq_true rfl, Nat.le_of_ble_eq_true rfl, Nat.le_of_ble_eq_true rfl, Nat.le_of_ble_eq_true rfl, Nat.le_of_ble_eq_true rfl⟩, fun q => wX_Mi (tbX0_sure l N a1 a2 μ (v, μ1) hf), fun qm => by
    have h := tX6_sure (E := []) (q := qm) (D := D) (ca := ca) l M a1 a2 μm (v, μm1) hm
    rwa [List.append_nil] at h⟩
theorem wo_42 {aE : Nat} {ad adK adV : Nat → Nat} {fo : Option Nat} {l : Launch} {D : va_G} {ca : wCA} {a1 a2 a3 a4 a5 : Int32} {E : List wCell} {μ μm μ1 μm1 : wMem} {v : Int32} (hE : wSlots ca (spX ++ E)) (N : Nat) (c0 t n : Nat) (hi1 : ok_in a1 4 = true) (hb : (spX ++ E)[24 + a1.toNatClampNeg]? = some (.inl (5, [(2, c0)]))) (hr : wRow (spX ++ E) c0 t n) (hf : fX0_dared N c0 t n  a1 μ = some (v, μ1)) (M : Nat) (hm : fX6_dared M a1 μm = some (v, μm1)) : wO_42 (wZa aE ad adK adV fo) l D ca a1 a2 a3 a4 a5 (spX ++ E) μ μm (spX ++ E) μ1 μm1 :=
  ⟨v, _, _, ⟨Nat.le_of_ble_eq_true rfl, Nat.le_of_ble_eq_true rfl, Nat.le_of_ble_eq_true rfl, Nat.le_of_ble_eq_true rfl, Nat.le_of_ble_eq_true rfl, Nat.le_of_ble_eq_true rfl⟩, fun q => wX_Mi (tX0_dared l hE N c0 t n a1 μ (v, μ1) hi1 hb hr hf), fun qm => by
    have h := tX6_dared (E := []) (q := qm) (D := D) (ca := ca) l M a1 μm (v, μm1) hm
    rwa [List.append_nil] at h⟩
theorem won_42 {aE : Nat} {ad adK adV : Nat → Nat} {fo : Option Nat} {l : Launch} {D : va_G} {ca : wCA} {a1 a2 a3 a4 a5 : Int32} {E : List wCell} {μ μm μ1 μm1 : wMem} {v : Int32} (hl : l.stackTraces = false) (hE : wSlots ca (spX ++ E)) (N : Nat) {x0 : Nat} (hi1 : ok_in a1 4 = true) (hb : (spX ++ E)[24 + a1.toNatClampNeg]? = some (.inl (5, [(3, x0)]))) (hf : fnX0_dared N  a1 μ = some (v, μ1)) (M : Nat) (hm : fX6_dared M a1 μm = some (v, μm1)) : wO_42 (wZa aE ad adK adV fo) l D ca a1 a2 a3 a4 a5 (spX ++ E) μ μm (spX ++ E) μ1 μm1 :=
  ⟨v, _, _, ⟨Nat.le_of_ble_eq_true rfl, Nat.le_of_ble_eq_true rfl, Nat.le_of_ble_eq_true rfl, Nat.le_of_ble_eq_true rfl, Nat.le_of_ble_eq_true rfl, Nat.le_of_ble_eq_true rfl⟩, fun q => wX_MiZ (tnX0_dared l hl hE N a1 μ (v, μ1) hi1 hb hf), fun qm => by
    have h := tX6_dared (E := []) (q := qm) (D := D) (ca := ca) l M a1 μm (v, μm1) hm
    rwa [List.append_nil] at h⟩
theorem wob_42 {aE : Nat} {ad adK adV : Nat → Nat} {fo : Option Nat} {l : Launch} {D : va_G} {ca : wCA} {a1 a2 a3 a4 a5 : Int32} {E : List wCell} {μ μm μ1 μm1 : wMem} {v : Int32} (N : Nat) (hf : fbX0_dared N  a1 μ = some (v, μ1)) (M : Nat) (hm : fX6_dared M a1 μm = some (v, μm1)) : wO_42 (wZa aE ad adK adV fo) l D ca a1 a2 a3 a4 a5 (spX ++ E) μ μm (spX ++ E) μ1 μm1 :=
  ⟨v, _, _, ⟨Nat.le_of_ble_eq_true rfl, Nat.le_of_ble_eq_true rfl, Nat.le_of_ble_eq_true rfl, Nat.le_of_ble_eq_true rfl, Nat.le_of_ble_eq_true rfl, Nat.le_of_ble_eq_true rfl⟩, fun q => wX_Mi (tbX0_dared l N a1 μ (v, μ1) hf), fun qm => by
    have h := tX6_dared (E := []) (q := qm) (D := D) (ca := ca) l M a1 μm (v, μm1) hm
    rwa [List.append_nil] at h⟩
theorem wo_43 {aE : Nat} {ad adK adV : Nat → Nat} {fo : Option Nat} {l : Launch} {D : va_G} {ca : wCA} {a1 a2 a3 a4 a5 : Int32} {E : List wCell} {μ μm μ1 μm1 : wMem} {v : Int32} (N : Nat) (hf : fX0_alone N  a1 a2 μ = some (v, μ1)) (M : Nat) (hm : fX6_alone M a1 a2 μm = some (v, μm1)) : wO_43 (wZa aE ad adK adV fo) l D ca a1 a2 a3 a4 a5 (spX ++ E) μ μm (spX ++ E) μ1 μm1 :=
  ⟨v, _, _, ⟨Nat.le_of_ble_eq_true rfl, Nat.le_of_ble_eq_true rfl, Nat.le_of_ble_eq_true rfl, Nat.le_of_ble_eq_true rfl, Nat.le_of_ble_eq_true rfl, Nat.le_of_ble_eq_true rfl⟩, fun q => wX_Mi (tX0_alone l N a1 a2 μ (v, μ1) hf), fun qm => by
    have h := tX6_alone (E := []) (q := qm) (D := D) (ca := ca) l M a1 a2 μm (v, μm1) hm
    rwa [List.append_nil] at h⟩
theorem wo_44 {aE : Nat} {ad adK adV : Nat → Nat} {fo : Option Nat} {l : Launch} {D : va_G} {ca : wCA} {a1 a2 a3 a4 a5 : Int32} {E : List wCell} {μ μm μ1 μm1 : wMem} {v : Int32} (N : Nat) (hf : fX0_worth N  a1 a2 μ = some (v, μ1)) (M : Nat) (hm : fX6_worth M a1 a2 μm = some (v, μm1)) : wO_44 (wZa aE ad adK adV fo) l D ca a1 a2 a3 a4 a5 (spX ++ E) μ μm (spX ++ E) μ1 μm1 :=
  ⟨v, _, _, ⟨Nat.le_of_ble_eq_true rfl, Nat.le_of_ble_eq_true rfl, Nat.le_of_ble_eq_true rfl, Nat.le_of_ble_eq_true rfl, Nat.le_of_ble_eq_true rfl, Nat.le_of_ble_eq_true rfl⟩, fun q => wX_Mi (tX0_worth l N a1 a2 μ (v, μ1) hf), fun qm => by
    have h := tX6_worth (E := []) (q := qm) (D := D) (ca := ca) l M a1 a2 μm (v, μm1) hm
    rwa [List.append_nil] at h⟩
theorem wo_45 {aE : Nat} {ad adK adV : Nat → Nat} {fo : Option Nat} {l : Launch} {D : va_G} {ca : wCA} {a1 a2 a3 a4 a5 : Int32} {E : List wCell} {μ μm μ1 μm1 : wMem} {v : Int32} (N : Nat) (hf : fX0_whom N  a1 μ = some (v, μ1)) (M : Nat) (hm : fX6_whom M a1 μm = some (v, μm1)) : wO_45 (wZa aE ad adK adV fo) l D ca a1 a2 a3 a4 a5 (spX ++ E) μ μm (spX ++ E) μ1 μm1 :=
  ⟨v, _, _, ⟨Nat.le_of_ble_eq_true rfl, Nat.le_of_ble_eq_true rfl, Nat.le_of_ble_eq_true rfl, Nat.le_of_ble_eq_true rfl, Nat.le_of_ble_eq_true rfl, Nat.le_of_ble_eq_true rfl⟩, fun q => wX_Mi (tX0_whom l N a1 μ (v, μ1) hf), fun qm => by
    have h := tX6_whom (E := []) (q := qm) (D := D) (ca := ca) l M a1 μm (v, μm1) hm
    rwa [List.append_nil] at h⟩
theorem wo_46 {aE : Nat} {ad adK adV : Nat → Nat} {fo : Option Nat} {l : Launch} {D : va_G} {ca : wCA} {a1 a2 a3 a4 a5 : Int32} {E : List wCell} {μ μm μ1 μm1 : wMem} {v : Int32} (N : Nat) (hf : fX0_blur N  a1 μ = some (v, μ1)) (M : Nat) (hm : fX6_blur M a1 μm = some (v, μm1)) : wO_46 (wZa aE ad adK adV fo) l D ca a1 a2 a3 a4 a5 (spX ++ E) μ μm (spX ++ E) μ1 μm1 :=
  ⟨v, _, _, ⟨Nat.le_of_ble_eq_true rfl, Nat.le_of_ble_eq_true rfl, Nat.le_of_ble_eq_true rfl, Nat.le_of_ble_eq_true rfl, Nat.le_of_ble_eq_true rfl, Nat.le_of_ble_eq_true rfl⟩, fun q => wX_Mi (tX0_blur l N a1 μ (v, μ1) hf), fun qm => by
    have h := tX6_blur (E := []) (q := qm) (D := D) (ca := ca) l M a1 μm (v, μm1) hm
    rwa [List.append_nil] at h⟩
theorem wo_47 {aE : Nat} {ad adK adV : Nat → Nat} {fo : Option Nat} {l : Launch} {D : va_G} {ca : wCA} {a1 a2 a3 a4 a5 : Int32} {E : List wCell} {μ μm μ1 μm1 : wMem} {v : Int32} (N : Nat) (hf : fX0_looks N  a1 μ = some (v, μ1)) (M : Nat) (hm : fX6_looks M a1 μm = some (v, μm1)) : wO_47 (wZa aE ad adK adV fo) l D ca a1 a2 a3 a4 a5 (spX ++ E) μ μm (spX ++ E) μ1 μm1 :=
  ⟨v, _, _, ⟨Nat.le_of_ble_eq_true rfl, Nat.le_of_ble_eq_true rfl, Nat.le_of_ble_eq_true rfl, Nat.le_of_ble_eq_true rfl, Nat.le_of_ble_eq_true rfl, Nat.le_of_ble_eq_true rfl⟩, fun q => wX_Mi (tX0_looks l N a1 μ (v, μ1) hf), fun qm => by
    have h := tX6_looks (E := []) (q := qm) (D := D) (ca := ca) l M a1 μm (v, μm1) hm
    rwa [List.append_nil] at h⟩
theorem wo_48 {aE : Nat} {ad adK adV : Nat → Nat} {fo : Option Nat} {l : Launch} {D : va_G} {ca : wCA} {a1 a2 a3 a4 a5 : Int32} {E : List wCell} {μ μm μ1 μm1 : wMem} {v : Int32} (N : Nat) (hf : fX0_drawn N  a1 a2 μ = some (v, μ1)) (M : Nat) (hm : fX6_drawn M a1 a2 μm = some (v, μm1)) : wO_48 (wZa aE ad adK adV fo) l D ca a1 a2 a3 a4 a5 (spX ++ E) μ μm (spX ++ E) μ1 μm1 :=
  ⟨v, _, _, ⟨Nat.le_of_ble_eq_true rfl, Nat.le_of_ble_eq_true rfl, Nat.le_of_ble_eq_true rfl, Nat.le_of_ble_eq_true rfl, Nat.le_of_ble_eq_true rfl, Nat.le_of_ble_eq_true rfl⟩, fun q => wX_Mi (tX0_drawn l N a1 a2 μ (v, μ1) hf), fun qm => by
    have h := tX6_drawn (E := []) (q := qm) (D := D) (ca := ca) l M a1 a2 μm (v, μm1) hm
    rwa [List.append_nil] at h⟩
theorem wo_49 {aE : Nat} {ad adK adV : Nat → Nat} {fo : Option Nat} {l : Launch} {D : va_G} {ca : wCA} {a1 a2 a3 a4 a5 : Int32} {E : List wCell} {μ μm μ1 μm1 : wMem} {v : Int32} (N : Nat) (hf : fX0_luck N  a1 a2 μ = some (v, μ1)) (M : Nat) (hm : fX6_luck M a1 a2 μm = some (v, μm1)) : wO_49 (wZa aE ad adK adV fo) l D ca a1 a2 a3 a4 a5 (spX ++ E) μ μm (spX ++ E) μ1 μm1 :=
  ⟨v, _, _, ⟨Nat.le_of_ble_eq_true rfl, Nat.le_of_ble_eq_true rfl, Nat.le_of_ble_eq_true rfl, Nat.le_of_ble_eq_true rfl, Nat.le_of_ble_eq_true rfl, Nat.le_of_ble_eq_true rfl⟩, fun q => wX_Mi (tX0_luck l N a1 a2 μ (v, μ1) hf), fun qm => by
    have h := tX6_luck (E := []) (q := qm) (D := D) (ca := ca) l M a1 a2 μm (v, μm1) hm
    rwa [List.append_nil] at h⟩
theorem wo_50 {aE : Nat} {ad adK adV : Nat → Nat} {fo : Option Nat} {l : Launch} {D : va_G} {ca : wCA} {a1 a2 a3 a4 a5 : Int32} {E : List wCell} {μ μm μ1 μm1 : wMem} {v : Int32} (N : Nat) (hf : fX0_grow N  a1 a2 μ = some (v, μ1)) (M : Nat) (hm : fX6_grow M a1 a2 μm = some (v, μm1)) : wO_50 (wZa aE ad adK adV fo) l D ca a1 a2 a3 a4 a5 (spX ++ E) μ μm (spX ++ E) μ1 μm1 :=
  ⟨v, _, _, ⟨Nat.le_of_ble_eq_true rfl, Nat.le_of_ble_eq_true rfl, Nat.le_of_ble_eq_true rfl, Nat.le_of_ble_eq_true rfl, Nat.le_of_ble_eq_true rfl, Nat.le_of_ble_eq_true rfl⟩, fun q => wX_Mi (tX0_grow l N a1 a2 μ (v, μ1) hf), fun qm => by
    have h := tX6_grow (E := []) (q := qm) (D := D) (ca := ca) l M a1 a2 μm (v, μm1) hm
    rwa [List.append_nil] at h⟩
theorem wo_51 {aE : Nat} {ad adK adV : Nat → Nat} {fo : Option Nat} {l : Launch} {D : va_G} {ca : wCA} {a1 a2 a3 a4 a5 : Int32} {E : List wCell} {μ μm μ1 μm1 : wMem} {v : Int32} (N : Nat) (hf : fX0_guard N  a1 a2 μ = some (v, μ1)) (M : Nat) (hm : fX6_guard M a1 a2 μm = some (v, μm1)) : wO_51 (wZa aE ad adK adV fo) l D ca a1 a2 a3 a4 a5 (spX ++ E) μ μm (spX ++ E) μ1 μm1 :=
  ⟨v, _, _, ⟨Nat.le_of_ble_eq_true rfl, Nat.le_of_ble_eq_true rfl, Nat.le_of_ble_eq_true rfl, Nat.le_of_ble_eq_true rfl, Nat.le_of_ble_eq_true rfl, Nat.le_of_ble_eq_true rfl⟩, fun q => wX_Mi (tX0_guard l N a1 a2 μ (v, μ1) hf), fun qm => by
    have h := tX6_guard (E := []) (q := qm) (D := D) (ca := ca) l M a1 a2 μm (v, μm1) hm
    rwa [List.append_nil] at h⟩
theorem wo_52 {aE : Nat} {ad adK adV : Nat → Nat} {fo : Option Nat} {l : Launch} {D : va_G} {ca : wCA} {a1 a2 a3 a4 a5 : Int32} {E : List wCell} {μ μm μ1 μm1 : wMem} {v : Int32} (N : Nat) (hf : fX0_stay N  a1 a2 μ = some (v, μ1)) (M : Nat) (hm : fX6_stay M a1 a2 μm = some (v, μm1)) : wO_52 (wZa aE ad adK adV fo) l D ca a1 a2 a3 a4 a5 (spX ++ E) μ μm (spX ++ E) μ1 μm1 :=
  ⟨v, _, _, ⟨Nat.le_of_ble_eq_true rfl, Nat.le_of_ble_eq_true rfl, Nat.le_of_ble_eq_true rfl, Nat.le_of_ble_eq_true rfl, Nat.le_of_ble_eq_true rfl, Nat.le_of_ble_eq_true rfl⟩, fun q => wX_Mi (tX0_stay l N a1 a2 μ (v, μ1) hf), fun qm => by
    have h := tX6_stay (E := []) (q := qm) (D := D) (ca := ca) l M a1 a2 μm (v, μm1) hm
    rwa [List.append_nil] at h⟩
theorem wo_53 {aE : Nat} {ad adK adV : Nat → Nat} {fo : Option Nat} {l : Launch} {D : va_G} {ca : wCA} {a1 a2 a3 a4 a5 : Int32} {E : List wCell} {μ μm μ1 μm1 : wMem} {v : Int32} (hE : wSlots ca (spX ++ E)) (N : Nat) (hs : Nat → Bool) (hS : ∀ k, k < 4 → ∃ x, (spX ++ E)[24 + k]? = some (.inl (5, [(if hs k = true then 2 else 3, x)]))) (hf : fX0_count N hs  a1 μ = some (v, μ1)) (M : Nat) (hm : fX6_count M a1 μm = some (v, μm1)) : wO_53 (wZa aE ad adK adV fo) l D ca a1 a2 a3 a4 a5 (spX ++ E) μ μm (spX ++ E) μ1 μm1 :=
  ⟨v, _, _, ⟨Nat.le_of_ble_eq_true rfl, Nat.le_of_ble_eq_true rfl, Nat.le_of_ble_eq_true rfl, Nat.le_of_ble_eq_true rfl, Nat.le_of_ble_eq_true rfl, Nat.le_of_ble_eq_true rfl⟩, fun q => wX_Mi (tX0_count l hE N hs a1 μ (v, μ1) hS hf), fun qm => by
    have h := tX6_count (E := []) (q := qm) (D := D) (ca := ca) l M a1 μm (v, μm1) hm
    rwa [List.append_nil] at h⟩
theorem woo_56 {aE : Nat} {ad adK adV : Nat → Nat} {fo : Option Nat} {l : Launch} {D : va_G} {ca : wCA} {a1 a2 a3 a4 a5 : Int32} {E : List wCell} {μ μm μ1 μm1 : wMem} {v : Int32} (hl : l.stackTraces = false) (hE : wSlots ca (spX ++ E)) (N : Nat) {f0 : Nat × Nat} (hi1 : ok_in a1 4 = true) (hb : (spX ++ E)[24 + a1.toNatClampNeg]? = some (.inl (5, [f0]))) (hf : foX0_row N  a1 a2 a3 μ = some (v, μ1)) (M : Nat) (hm : fX6_row M a1 a2 a3 μm = some (v, μm1)) : wO_56 (wZa aE ad adK adV fo) l D ca a1 a2 a3 a4 a5 (spX ++ E) μ μm (spX ++ E) μ1 μm1 :=
  ⟨v, _, _, ⟨Nat.le_of_ble_eq_true rfl, Nat.le_of_ble_eq_true rfl, Nat.le_of_ble_eq_true rfl, Nat.le_of_ble_eq_true rfl, Nat.le_of_ble_eq_true rfl, Nat.le_of_ble_eq_true rfl⟩, fun q => wX_MiWZ (toX0_row l hl hE N a1 a2 a3 μ (v, μ1) hi1 hb hf), fun qm => by
    have h := tX6_row (E := []) (q := qm) (D := D) (ca := ca) l M a1 a2 a3 μm (v, μm1) hm
    rwa [List.append_nil] at h⟩
theorem wob_56 {aE : Nat} {ad adK adV : Nat → Nat} {fo : Option Nat} {l : Launch} {D : va_G} {ca : wCA} {a1 a2 a3 a4 a5 : Int32} {E : List wCell} {μ μm μ1 μm1 : wMem} {v : Int32} (N : Nat) (hf : fbX0_row N  a1 a2 a3 μ = some (v, μ1)) (M : Nat) (hm : fX6_row M a1 a2 a3 μm = some (v, μm1)) : wO_56 (wZa aE ad adK adV fo) l D ca a1 a2 a3 a4 a5 (spX ++ E) μ μm (spX ++ E) μ1 μm1 :=
  ⟨v, _, _, ⟨Nat.le_of_ble_eq_true rfl, Nat.le_of_ble_eq_true rfl, Nat.le_of_ble_eq_true rfl, Nat.le_of_ble_eq_true rfl, Nat.le_of_ble_eq_true rfl, Nat.le_of_ble_eq_true rfl⟩, fun q => wX_MiW (tbX0_row l N a1 a2 a3 μ (v, μ1) hf), fun qm => by
    have h := tX6_row (E := []) (q := qm) (D := D) (ca := ca) l M a1 a2 a3 μm (v, μm1) hm
    rwa [List.append_nil] at h⟩
theorem wo_57 {aE : Nat} {ad adK adV : Nat → Nat} {fo : Option Nat} {l : Launch} {D : va_G} {ca : wCA} {a1 a2 a3 a4 a5 : Int32} {E : List wCell} {μ μm μ1 μm1 : wMem} {v : Int32} (hE : wSlots ca (spX ++ E)) (N : Nat) (c0 t n : Nat) (hi1 : ok_in a1 4 = true) (hb : (spX ++ E)[24 + a1.toNatClampNeg]? = some (.inl (5, [(2, c0)]))) (hr : wRow (spX ++ E) c0 t n) (hf : fX0_write N c0 t n  a1 a2 (wLw a3 a4) μ = some (v, μ1)) (M : Nat) (hm : fX6_write M a1 a2 (wLw a3 a4) μm = some (v, μm1)) : wO_57 (wZa aE ad adK adV fo) l D ca a1 a2 a3 a4 a5 (spX ++ E) μ μm (spX ++ E) μ1 μm1 :=
  ⟨v, _, _, ⟨Nat.le_of_ble_eq_true rfl, Nat.le_of_ble_eq_true rfl, Nat.le_of_ble_eq_true rfl, Nat.le_of_ble_eq_true rfl, Nat.le_of_ble_eq_true rfl, Nat.le_of_ble_eq_true rfl⟩, fun q => wX_MiW (tX0_write l hE N c0 t n a1 a2 (wLw a3 a4) μ (v, μ1) hi1 hb hr hf), fun qm => by
    have h := tX6_write (E := []) (q := qm) (D := D) (ca := ca) l M a1 a2 (wLw a3 a4) μm (v, μm1) hm
    rwa [List.append_nil] at h⟩
theorem won_57 {aE : Nat} {ad adK adV : Nat → Nat} {fo : Option Nat} {l : Launch} {D : va_G} {ca : wCA} {a1 a2 a3 a4 a5 : Int32} {E : List wCell} {μ μm μ1 μm1 : wMem} {v : Int32} (hl : l.stackTraces = false) (hE : wSlots ca (spX ++ E)) (N : Nat) {x0 : Nat} (hi1 : ok_in a1 4 = true) (hb : (spX ++ E)[24 + a1.toNatClampNeg]? = some (.inl (5, [(3, x0)]))) (hf : fnX0_write N  a1 a2 (wLw a3 a4) μ = some (v, μ1)) (M : Nat) (hm : fX6_write M a1 a2 (wLw a3 a4) μm = some (v, μm1)) : wO_57 (wZa aE ad adK adV fo) l D ca a1 a2 a3 a4 a5 (spX ++ E) μ μm (spX ++ E) μ1 μm1 :=
  ⟨v, _, _, ⟨Nat.le_of_ble_eq_true rfl, Nat.le_of_ble_eq_true rfl, Nat.le_of_ble_eq_true rfl, Nat.le_of_ble_eq_true rfl, Nat.le_of_ble_eq_true rfl, Nat.le_of_ble_eq_true rfl⟩, fun q => wX_MiWZ (tnX0_write l hl hE N a1 a2 (wLw a3 a4) μ (v, μ1) hi1 hb hf), fun qm => by
    have h := tX6_write (E := []) (q := qm) (D := D) (ca := ca) l M a1 a2 (wLw a3 a4) μm (v, μm1) hm
    rwa [List.append_nil] at h⟩
theorem wob_57 {aE : Nat} {ad adK adV : Nat → Nat} {fo : Option Nat} {l : Launch} {D : va_G} {ca : wCA} {a1 a2 a3 a4 a5 : Int32} {E : List wCell} {μ μm μ1 μm1 : wMem} {v : Int32} (N : Nat) (hf : fbX0_write N  a1 a2 (wLw a3 a4) μ = some (v, μ1)) (M : Nat) (hm : fX6_write M a1 a2 (wLw a3 a4) μm = some (v, μm1)) : wO_57 (wZa aE ad adK adV fo) l D ca a1 a2 a3 a4 a5 (spX ++ E) μ μm (spX ++ E) μ1 μm1 :=
  ⟨v, _, _, ⟨Nat.le_of_ble_eq_true rfl, Nat.le_of_ble_eq_true rfl, Nat.le_of_ble_eq_true rfl, Nat.le_of_ble_eq_true rfl, Nat.le_of_ble_eq_true rfl, Nat.le_of_ble_eq_true rfl⟩, fun q => wX_MiW (tbX0_write l N a1 a2 (wLw a3 a4) μ (v, μ1) hf), fun qm => by
    have h := tX6_write (E := []) (q := qm) (D := D) (ca := ca) l M a1 a2 (wLw a3 a4) μm (v, μm1) hm
    rwa [List.append_nil] at h⟩
theorem woo_57 {aE : Nat} {ad adK adV : Nat → Nat} {fo : Option Nat} {l : Launch} {D : va_G} {ca : wCA} {a1 a2 a3 a4 a5 : Int32} {E : List wCell} {μ μm μ1 μm1 : wMem} {v : Int32} (hl : l.stackTraces = false) (hE : wSlots ca (spX ++ E)) (N : Nat) (c0 t n : Nat) (hi1 : ok_in a1 4 = true) (hb : (spX ++ E)[24 + a1.toNatClampNeg]? = some (.inl (5, [(2, c0)]))) (hr : wRow (spX ++ E) c0 t n) (hn : n < 2 ^ 31) (hf : foX0_write N c0 t n  a1 a2 (wLw a3 a4) μ = some (v, μ1)) (M : Nat) (hm : fX6_write M a1 a2 (wLw a3 a4) μm = some (v, μm1)) : wO_57 (wZa aE ad adK adV fo) l D ca a1 a2 a3 a4 a5 (spX ++ E) μ μm (spX ++ E) μ1 μm1 :=
  ⟨v, _, _, ⟨Nat.le_of_ble_eq_true rfl, Nat.le_of_ble_eq_true rfl, Nat.le_of_ble_eq_true rfl, Nat.le_of_ble_eq_true rfl, Nat.le_of_ble_eq_true rfl, Nat.le_of_ble_eq_true rfl⟩, fun q => wX_MiWZ (toX0_write l hl hE N c0 t n a1 a2 (wLw a3 a4) μ (v, μ1) hi1 hb hr hn hf), fun qm => by
    have h := tX6_write (E := []) (q := qm) (D := D) (ca := ca) l M a1 a2 (wLw a3 a4) μm (v, μm1) hm
    rwa [List.append_nil] at h⟩
