/-! rows of the component's fields, casts: printed by cgen.py -/
set_option maxRecDepth 100000
section CFL
variable {p : Program} {l : Launch} {e : Env} {R : Room} {s : State} {m : MethodId} {args : Array Value} {below : List Frame} {meth : Method} {c : Code} {H : Heap} {locs : List Loc} {cells slots : Nat} {Q : State → Prop}
variable {cc : ByteArray} {pc nL lev0 : Nat} {ls : Array Slot} {rest st : List Value} {E : gX} {G Gz G1 : GH}
theorem cg_X1_37 {a : Nat} {v : Nat} (hdg : decode cc pc = .ok (.getfield 37, 3)) (S : CallFix p m c cc nL s args lw_all RX1) (hE : gEnv E s) (hG : gC E G H) (hv : cGetR G [9] a 0 = some v) (kk : W p l e R s m args below meth c H locs cells slots Q (F0 m (pc + 3) ls (.ref v :: rest))) : W p l e R s m args below meth c H locs cells slots Q (F0 m pc ls (.ref a :: rest)) := by
  unfold cGetR at hv
  split at hv
  · next ht =>
    have ht := List.mem_singleton.mp ht
    exact c_getv (ci := 8) (k := 0) hdg (Or.inl q187) rfl in_X1 (by decide) (by decide) (Or.inl rfl) (by show va_rf (cR G a 0) = _; rw [hv]; rfl) S hE hG ht kk
  · cases hv
theorem cp_X1_37i {a : Nat} {v : Option Nat} (hdg : decode cc pc = .ok (.putfield 37, 3)) (S : CallFix p m c cc nL s args lw_all RX1) (hE : gEnv E s) (hG : gC E G H) (hS : va_S (gx_C E) s.heap H locs) (hC0 : gC E Gz s.heap) (hnm : meth.name = "<init>") (hv : cPutR G [9] a 0 v = some G1) (kk : ∀ (H1 : Heap) (locs1 : List Loc), gC E G1 H1 → va_S (gx_C E) s.heap H1 locs1 → WC E p l e R s m args below meth c H1 locs1 Q (F0 m (pc + 3) ls rest)) : WC E p l e R s m args below meth c H locs Q (F0 m pc ls (va_rf v :: .ref a :: rest)) := by
  unfold cPutR at hv
  split at hv
  · next ht =>
    cases hv
    have ht := List.mem_singleton.mp ht
    exact c_putv (ci := 8) (k := 0) (v := va_rf v) (G' := cSetR G a 0 v) hdg (Or.inl q187) rfl in_X1 tyX1_ok nmX1 (by decide) (Or.inl rfl) (by decide) (Or.inr ⟨hnm, rfl, q187⟩) (tyX1_ok 0 (by decide)) (c_narR v (Or.inr ⟨_, rfl⟩)).1 (c_narR v (Or.inr ⟨_, rfl⟩)).2 S hE hG hS ht (by decide) rfl rfl rfl rfl rfl rfl c_othR (c_hvR (fun _ _ _ => rfl)) hC0.2.2.2.2.2 kk
  · cases hv
theorem cg_X1_41 {a : Nat} {v : Int32} (hdg : decode cc pc = .ok (.getfield 41, 3)) (S : CallFix p m c cc nL s args lw_all RX1) (hE : gEnv E s) (hG : gC E G H) (hv : cGetI G [9] a 3 = some v) (kk : W p l e R s m args below meth c H locs cells slots Q (F0 m (pc + 3) ls (.int v :: rest))) : W p l e R s m args below meth c H locs cells slots Q (F0 m pc ls (.ref a :: rest)) := by
  unfold cGetI at hv
  split at hv
  · next ht =>
    cases hv
    have ht := List.mem_singleton.mp ht
    exact c_getv (ci := 8) (k := 3) hdg (Or.inl q190) rfl in_X1 (by decide) (by decide) (Or.inl rfl) rfl S hE hG ht kk
  · cases hv
theorem cp_X1_41i {a : Nat} {v : Int32} (hdg : decode cc pc = .ok (.putfield 41, 3)) (S : CallFix p m c cc nL s args lw_all RX1) (hE : gEnv E s) (hG : gC E G H) (hS : va_S (gx_C E) s.heap H locs) (hC0 : gC E Gz s.heap) (hnm : meth.name = "<init>") (hv : cPutI G [9] a 3 v = some G1) (kk : ∀ (H1 : Heap) (locs1 : List Loc), gC E G1 H1 → va_S (gx_C E) s.heap H1 locs1 → WC E p l e R s m args below meth c H1 locs1 Q (F0 m (pc + 3) ls rest)) : WC E p l e R s m args below meth c H locs Q (F0 m pc ls (.int v :: .ref a :: rest)) := by
  unfold cPutI at hv
  split at hv
  · next ht =>
    cases hv
    have ht := List.mem_singleton.mp ht
    exact c_putv (ci := 8) (k := 3) (v := .int v) (G' := cSetI G a 3 v) hdg (Or.inl q190) rfl in_X1 tyX1_ok nmX1 (by decide) (Or.inl rfl) (by decide) (Or.inr ⟨hnm, rfl, q190⟩) (tyX1_ok 3 (by decide)) rfl rfl S hE hG hS ht (by decide) rfl rfl rfl rfl rfl rfl c_othI (c_hvI (fun _ _ _ => rfl)) hC0.2.2.2.2.2 kk
  · cases hv
theorem cg_X1_45 {a : Nat} {v : Nat} (hdg : decode cc pc = .ok (.getfield 45, 3)) (S : CallFix p m c cc nL s args lw_all RX1) (hE : gEnv E s) (hG : gC E G H) (hv : cGetR G [9] a 10 = some v) (kk : W p l e R s m args below meth c H locs cells slots Q (F0 m (pc + 3) ls (.ref v :: rest))) : W p l e R s m args below meth c H locs cells slots Q (F0 m pc ls (.ref a :: rest)) := by
  unfold cGetR at hv
  split at hv
  · next ht =>
    have ht := List.mem_singleton.mp ht
    exact c_getv (ci := 8) (k := 10) hdg (Or.inl q202) rfl in_X1 (by decide) (by decide) (Or.inl rfl) (by show va_rf (cR G a 10) = _; rw [hv]; rfl) S hE hG ht kk
  · cases hv
theorem cp_X1_45i {a : Nat} {v : Option Nat} (hdg : decode cc pc = .ok (.putfield 45, 3)) (S : CallFix p m c cc nL s args lw_all RX1) (hE : gEnv E s) (hG : gC E G H) (hS : va_S (gx_C E) s.heap H locs) (hC0 : gC E Gz s.heap) (hnm : meth.name = "<init>") (hv : cPutR G [9] a 10 v = some G1) (kk : ∀ (H1 : Heap) (locs1 : List Loc), gC E G1 H1 → va_S (gx_C E) s.heap H1 locs1 → WC E p l e R s m args below meth c H1 locs1 Q (F0 m (pc + 3) ls rest)) : WC E p l e R s m args below meth c H locs Q (F0 m pc ls (va_rf v :: .ref a :: rest)) := by
  unfold cPutR at hv
  split at hv
  · next ht =>
    cases hv
    have ht := List.mem_singleton.mp ht
    exact c_putv (ci := 8) (k := 10) (v := va_rf v) (G' := cSetR G a 10 v) hdg (Or.inl q202) rfl in_X1 tyX1_ok nmX1 (by decide) (Or.inl rfl) (by decide) (Or.inr ⟨hnm, rfl, q202⟩) (tyX1_ok 10 (by decide)) (c_narR v (Or.inr ⟨_, rfl⟩)).1 (c_narR v (Or.inr ⟨_, rfl⟩)).2 S hE hG hS ht (by decide) rfl rfl rfl rfl rfl rfl c_othR (c_hvR (fun _ _ _ => rfl)) hC0.2.2.2.2.2 kk
  · cases hv
theorem cg_X1_49 {a : Nat} {v : Nat} (hdg : decode cc pc = .ok (.getfield 49, 3)) (S : CallFix p m c cc nL s args lw_all RX1) (hE : gEnv E s) (hG : gC E G H) (hv : cGetR G [9] a 11 = some v) (kk : W p l e R s m args below meth c H locs cells slots Q (F0 m (pc + 3) ls (.ref v :: rest))) : W p l e R s m args below meth c H locs cells slots Q (F0 m pc ls (.ref a :: rest)) := by
  unfold cGetR at hv
  split at hv
  · next ht =>
    have ht := List.mem_singleton.mp ht
    exact c_getv (ci := 8) (k := 11) hdg (Or.inl q204) rfl in_X1 (by decide) (by decide) (Or.inl rfl) (by show va_rf (cR G a 11) = _; rw [hv]; rfl) S hE hG ht kk
  · cases hv
theorem cp_X1_49i {a : Nat} {v : Option Nat} (hdg : decode cc pc = .ok (.putfield 49, 3)) (S : CallFix p m c cc nL s args lw_all RX1) (hE : gEnv E s) (hG : gC E G H) (hS : va_S (gx_C E) s.heap H locs) (hC0 : gC E Gz s.heap) (hnm : meth.name = "<init>") (hv : cPutR G [9] a 11 v = some G1) (kk : ∀ (H1 : Heap) (locs1 : List Loc), gC E G1 H1 → va_S (gx_C E) s.heap H1 locs1 → WC E p l e R s m args below meth c H1 locs1 Q (F0 m (pc + 3) ls rest)) : WC E p l e R s m args below meth c H locs Q (F0 m pc ls (va_rf v :: .ref a :: rest)) := by
  unfold cPutR at hv
  split at hv
  · next ht =>
    cases hv
    have ht := List.mem_singleton.mp ht
    exact c_putv (ci := 8) (k := 11) (v := va_rf v) (G' := cSetR G a 11 v) hdg (Or.inl q204) rfl in_X1 tyX1_ok nmX1 (by decide) (Or.inl rfl) (by decide) (Or.inr ⟨hnm, rfl, q204⟩) (tyX1_ok 11 (by decide)) (c_narR v (Or.inr ⟨_, rfl⟩)).1 (c_narR v (Or.inr ⟨_, rfl⟩)).2 S hE hG hS ht (by decide) rfl rfl rfl rfl rfl rfl c_othR (c_hvR (fun _ _ _ => rfl)) hC0.2.2.2.2.2 kk
  · cases hv
theorem cg_X1_53 {a : Nat} {v : Nat} (hdg : decode cc pc = .ok (.getfield 53, 3)) (S : CallFix p m c cc nL s args lw_all RX1) (hE : gEnv E s) (hG : gC E G H) (hv : cGetR G [9] a 12 = some v) (kk : W p l e R s m args below meth c H locs cells slots Q (F0 m (pc + 3) ls (.ref v :: rest))) : W p l e R s m args below meth c H locs cells slots Q (F0 m pc ls (.ref a :: rest)) := by
  unfold cGetR at hv
  split at hv
  · next ht =>
    have ht := List.mem_singleton.mp ht
    exact c_getv (ci := 8) (k := 12) hdg (Or.inl q205) rfl in_X1 (by decide) (by decide) (Or.inl rfl) (by show va_rf (cR G a 12) = _; rw [hv]; rfl) S hE hG ht kk
  · cases hv
theorem cp_X1_53i {a : Nat} {v : Option Nat} (hdg : decode cc pc = .ok (.putfield 53, 3)) (S : CallFix p m c cc nL s args lw_all RX1) (hE : gEnv E s) (hG : gC E G H) (hS : va_S (gx_C E) s.heap H locs) (hC0 : gC E Gz s.heap) (hnm : meth.name = "<init>") (hv : cPutR G [9] a 12 v = some G1) (kk : ∀ (H1 : Heap) (locs1 : List Loc), gC E G1 H1 → va_S (gx_C E) s.heap H1 locs1 → WC E p l e R s m args below meth c H1 locs1 Q (F0 m (pc + 3) ls rest)) : WC E p l e R s m args below meth c H locs Q (F0 m pc ls (va_rf v :: .ref a :: rest)) := by
  unfold cPutR at hv
  split at hv
  · next ht =>
    cases hv
    have ht := List.mem_singleton.mp ht
    exact c_putv (ci := 8) (k := 12) (v := va_rf v) (G' := cSetR G a 12 v) hdg (Or.inl q205) rfl in_X1 tyX1_ok nmX1 (by decide) (Or.inl rfl) (by decide) (Or.inr ⟨hnm, rfl, q205⟩) (tyX1_ok 12 (by decide)) (c_narR v (Or.inr ⟨_, rfl⟩)).1 (c_narR v (Or.inr ⟨_, rfl⟩)).2 S hE hG hS ht (by decide) rfl rfl rfl rfl rfl rfl c_othR (c_hvR (fun _ _ _ => rfl)) hC0.2.2.2.2.2 kk
  · cases hv
theorem cg_X1_56 {a : Nat} {v : Nat} (hdg : decode cc pc = .ok (.getfield 56, 3)) (S : CallFix p m c cc nL s args lw_all RX1) (hE : gEnv E s) (hG : gC E G H) (hv : cGetR G [9] a 13 = some v) (kk : W p l e R s m args below meth c H locs cells slots Q (F0 m (pc + 3) ls (.ref v :: rest))) : W p l e R s m args below meth c H locs cells slots Q (F0 m pc ls (.ref a :: rest)) := by
  unfold cGetR at hv
  split at hv
  · next ht =>
    have ht := List.mem_singleton.mp ht
    exact c_getv (ci := 8) (k := 13) hdg (Or.inl q206) rfl in_X1 (by decide) (by decide) (Or.inl rfl) (by show va_rf (cR G a 13) = _; rw [hv]; rfl) S hE hG ht kk
  · cases hv
theorem cp_X1_56i {a : Nat} {v : Option Nat} (hdg : decode cc pc = .ok (.putfield 56, 3)) (S : CallFix p m c cc nL s args lw_all RX1) (hE : gEnv E s) (hG : gC E G H) (hS : va_S (gx_C E) s.heap H locs) (hC0 : gC E Gz s.heap) (hnm : meth.name = "<init>") (hv : cPutR G [9] a 13 v = some G1) (kk : ∀ (H1 : Heap) (locs1 : List Loc), gC E G1 H1 → va_S (gx_C E) s.heap H1 locs1 → WC E p l e R s m args below meth c H1 locs1 Q (F0 m (pc + 3) ls rest)) : WC E p l e R s m args below meth c H locs Q (F0 m pc ls (va_rf v :: .ref a :: rest)) := by
  unfold cPutR at hv
  split at hv
  · next ht =>
    cases hv
    have ht := List.mem_singleton.mp ht
    exact c_putv (ci := 8) (k := 13) (v := va_rf v) (G' := cSetR G a 13 v) hdg (Or.inl q206) rfl in_X1 tyX1_ok nmX1 (by decide) (Or.inl rfl) (by decide) (Or.inr ⟨hnm, rfl, q206⟩) (tyX1_ok 13 (by decide)) (c_narR v (Or.inr ⟨_, rfl⟩)).1 (c_narR v (Or.inr ⟨_, rfl⟩)).2 S hE hG hS ht (by decide) rfl rfl rfl rfl rfl rfl c_othR (c_hvR (fun _ _ _ => rfl)) hC0.2.2.2.2.2 kk
  · cases hv
theorem cg_X1_59 {a : Nat} {v : Nat} (hdg : decode cc pc = .ok (.getfield 59, 3)) (S : CallFix p m c cc nL s args lw_all RX1) (hE : gEnv E s) (hG : gC E G H) (hv : cGetR G [9] a 14 = some v) (kk : W p l e R s m args below meth c H locs cells slots Q (F0 m (pc + 3) ls (.ref v :: rest))) : W p l e R s m args below meth c H locs cells slots Q (F0 m pc ls (.ref a :: rest)) := by
  unfold cGetR at hv
  split at hv
  · next ht =>
    have ht := List.mem_singleton.mp ht
    exact c_getv (ci := 8) (k := 14) hdg (Or.inl q207) rfl in_X1 (by decide) (by decide) (Or.inl rfl) (by show va_rf (cR G a 14) = _; rw [hv]; rfl) S hE hG ht kk
  · cases hv
theorem cp_X1_59i {a : Nat} {v : Option Nat} (hdg : decode cc pc = .ok (.putfield 59, 3)) (S : CallFix p m c cc nL s args lw_all RX1) (hE : gEnv E s) (hG : gC E G H) (hS : va_S (gx_C E) s.heap H locs) (hC0 : gC E Gz s.heap) (hnm : meth.name = "<init>") (hv : cPutR G [9] a 14 v = some G1) (kk : ∀ (H1 : Heap) (locs1 : List Loc), gC E G1 H1 → va_S (gx_C E) s.heap H1 locs1 → WC E p l e R s m args below meth c H1 locs1 Q (F0 m (pc + 3) ls rest)) : WC E p l e R s m args below meth c H locs Q (F0 m pc ls (va_rf v :: .ref a :: rest)) := by
  unfold cPutR at hv
  split at hv
  · next ht =>
    cases hv
    have ht := List.mem_singleton.mp ht
    exact c_putv (ci := 8) (k := 14) (v := va_rf v) (G' := cSetR G a 14 v) hdg (Or.inl q207) rfl in_X1 tyX1_ok nmX1 (by decide) (Or.inl rfl) (by decide) (Or.inr ⟨hnm, rfl, q207⟩) (tyX1_ok 14 (by decide)) (c_narR v (Or.inr ⟨_, rfl⟩)).1 (c_narR v (Or.inr ⟨_, rfl⟩)).2 S hE hG hS ht (by decide) rfl rfl rfl rfl rfl rfl c_othR (c_hvR (fun _ _ _ => rfl)) hC0.2.2.2.2.2 kk
  · cases hv
theorem cg_X1_62 {a : Nat} {v : Nat} (hdg : decode cc pc = .ok (.getfield 62, 3)) (S : CallFix p m c cc nL s args lw_all RX1) (hE : gEnv E s) (hG : gC E G H) (hv : cGetR G [9] a 15 = some v) (kk : W p l e R s m args below meth c H locs cells slots Q (F0 m (pc + 3) ls (.ref v :: rest))) : W p l e R s m args below meth c H locs cells slots Q (F0 m pc ls (.ref a :: rest)) := by
  unfold cGetR at hv
  split at hv
  · next ht =>
    have ht := List.mem_singleton.mp ht
    exact c_getv (ci := 8) (k := 15) hdg (Or.inl q208) rfl in_X1 (by decide) (by decide) (Or.inl rfl) (by show va_rf (cR G a 15) = _; rw [hv]; rfl) S hE hG ht kk
  · cases hv
theorem cp_X1_62i {a : Nat} {v : Option Nat} (hdg : decode cc pc = .ok (.putfield 62, 3)) (S : CallFix p m c cc nL s args lw_all RX1) (hE : gEnv E s) (hG : gC E G H) (hS : va_S (gx_C E) s.heap H locs) (hC0 : gC E Gz s.heap) (hnm : meth.name = "<init>") (hv : cPutR G [9] a 15 v = some G1) (kk : ∀ (H1 : Heap) (locs1 : List Loc), gC E G1 H1 → va_S (gx_C E) s.heap H1 locs1 → WC E p l e R s m args below meth c H1 locs1 Q (F0 m (pc + 3) ls rest)) : WC E p l e R s m args below meth c H locs Q (F0 m pc ls (va_rf v :: .ref a :: rest)) := by
  unfold cPutR at hv
  split at hv
  · next ht =>
    cases hv
    have ht := List.mem_singleton.mp ht
    exact c_putv (ci := 8) (k := 15) (v := va_rf v) (G' := cSetR G a 15 v) hdg (Or.inl q208) rfl in_X1 tyX1_ok nmX1 (by decide) (Or.inl rfl) (by decide) (Or.inr ⟨hnm, rfl, q208⟩) (tyX1_ok 15 (by decide)) (c_narR v (Or.inr ⟨_, rfl⟩)).1 (c_narR v (Or.inr ⟨_, rfl⟩)).2 S hE hG hS ht (by decide) rfl rfl rfl rfl rfl rfl c_othR (c_hvR (fun _ _ _ => rfl)) hC0.2.2.2.2.2 kk
  · cases hv
theorem cg_X1_65 {a : Nat} {v : Int32} (hdg : decode cc pc = .ok (.getfield 65, 3)) (S : CallFix p m c cc nL s args lw_all RX1) (hE : gEnv E s) (hG : gC E G H) (hv : cGetI G [9] a 1 = some v) (kk : W p l e R s m args below meth c H locs cells slots Q (F0 m (pc + 3) ls (.int v :: rest))) : W p l e R s m args below meth c H locs cells slots Q (F0 m pc ls (.ref a :: rest)) := by
  unfold cGetI at hv
  split at hv
  · next ht =>
    cases hv
    have ht := List.mem_singleton.mp ht
    exact c_getv (ci := 8) (k := 1) hdg (Or.inl q188) rfl in_X1 (by decide) (by decide) (Or.inl rfl) rfl S hE hG ht kk
  · cases hv
theorem cp_X1_65 {a : Nat} {v : Int32} (hdg : decode cc pc = .ok (.putfield 65, 3)) (S : CallFix p m c cc nL s args lw_all RX1) (hE : gEnv E s) (hG : gC E G H) (hS : va_S (gx_C E) s.heap H locs) (hC0 : gC E Gz s.heap) (hv : cPutI G [9] a 1 v = some G1) (kk : ∀ (H1 : Heap) (locs1 : List Loc), gC E G1 H1 → va_S (gx_C E) s.heap H1 locs1 → WC E p l e R s m args below meth c H1 locs1 Q (F0 m (pc + 3) ls rest)) : WC E p l e R s m args below meth c H locs Q (F0 m pc ls (.int v :: .ref a :: rest)) := by
  unfold cPutI at hv
  split at hv
  · next ht =>
    cases hv
    have ht := List.mem_singleton.mp ht
    exact c_putv (ci := 8) (k := 1) (v := .int v) (G' := cSetI G a 1 v) hdg (Or.inl q188) rfl in_X1 tyX1_ok nmX1 (by decide) (Or.inl rfl) (by decide) (Or.inl rfl) (tyX1_ok 1 (by decide)) rfl rfl S hE hG hS ht (by decide) rfl rfl rfl rfl rfl rfl c_othI (c_hvI (fun _ _ _ => rfl)) hC0.2.2.2.2.2 kk
  · cases hv
theorem cg_X1_75 {a : Nat} {v : Option Nat} (hdg : decode cc pc = .ok (.getfield 75, 3)) (S : CallFix p m c cc nL s args lw_all RX1) (hE : gEnv E s) (hG : gC E G H) (hv : cGetQ G [9] a 4 = some v) (kk : W p l e R s m args below meth c H locs cells slots Q (F0 m (pc + 3) ls (va_rf v :: rest))) : W p l e R s m args below meth c H locs cells slots Q (F0 m pc ls (.ref a :: rest)) := by
  unfold cGetQ at hv
  split at hv
  · next ht =>
    cases hv
    have ht := List.mem_singleton.mp ht
    exact c_getv (ci := 8) (k := 4) hdg (Or.inl q191) rfl in_X1 (by decide) (by decide) (Or.inl rfl) rfl S hE hG ht kk
  · cases hv
theorem cg_X1_79 {a : Nat} {v : Int32} (hdg : decode cc pc = .ok (.getfield 79, 3)) (S : CallFix p m c cc nL s args lw_all RX1) (hE : gEnv E s) (hG : gC E G H) (hv : cGetI G [9] a 2 = some v) (kk : W p l e R s m args below meth c H locs cells slots Q (F0 m (pc + 3) ls (.int v :: rest))) : W p l e R s m args below meth c H locs cells slots Q (F0 m pc ls (.ref a :: rest)) := by
  unfold cGetI at hv
  split at hv
  · next ht =>
    cases hv
    have ht := List.mem_singleton.mp ht
    exact c_getv (ci := 8) (k := 2) hdg (Or.inl q189) rfl in_X1 (by decide) (by decide) (Or.inl rfl) rfl S hE hG ht kk
  · cases hv
theorem cg_X1_104 {a : Nat} {v : Nat} (hdg : decode cc pc = .ok (.getfield 104, 3)) (S : CallFix p m c cc nL s args lw_all RX1) (hE : gEnv E s) (hG : gC E G H) (hv : cGetR G [11] a 10 = some v) (kk : W p l e R s m args below meth c H locs cells slots Q (F0 m (pc + 3) ls (.ref v :: rest))) : W p l e R s m args below meth c H locs cells slots Q (F0 m pc ls (.ref a :: rest)) := by
  unfold cGetR at hv
  split at hv
  · next ht =>
    have ht := List.mem_singleton.mp ht
    exact c_getv (ci := 10) (k := 10) hdg (Or.inr ⟨_, lw_nw q639 rfl⟩) rfl in_X3 (by decide) (by decide) (Or.inl rfl) (by show va_rf (cR G a 10) = _; rw [hv]; rfl) S hE hG ht kk
  · cases hv
theorem cg_X1_113 {a : Nat} {v : Int32} (hdg : decode cc pc = .ok (.getfield 113, 3)) (S : CallFix p m c cc nL s args lw_all RX1) (hE : gEnv E s) (hG : gC E G H) (hv : cGetI G [11] a 12 = some v) (kk : W p l e R s m args below meth c H locs cells slots Q (F0 m (pc + 3) ls (.int v :: rest))) : W p l e R s m args below meth c H locs cells slots Q (F0 m pc ls (.ref a :: rest)) := by
  unfold cGetI at hv
  split at hv
  · next ht =>
    cases hv
    have ht := List.mem_singleton.mp ht
    exact c_getv (ci := 10) (k := 12) hdg (Or.inr ⟨_, lw_nw q642 rfl⟩) rfl in_X3 (by decide) (by decide) (Or.inl rfl) rfl S hE hG ht kk
  · cases hv
theorem cg_X1_116 {a : Nat} {v : Int32} (hdg : decode cc pc = .ok (.getfield 116, 3)) (S : CallFix p m c cc nL s args lw_all RX1) (hE : gEnv E s) (hG : gC E G H) (hv : cGetI G [11] a 13 = some v) (kk : W p l e R s m args below meth c H locs cells slots Q (F0 m (pc + 3) ls (.int v :: rest))) : W p l e R s m args below meth c H locs cells slots Q (F0 m pc ls (.ref a :: rest)) := by
  unfold cGetI at hv
  split at hv
  · next ht =>
    cases hv
    have ht := List.mem_singleton.mp ht
    exact c_getv (ci := 10) (k := 13) hdg (Or.inr ⟨_, lw_nw q644 rfl⟩) rfl in_X3 (by decide) (by decide) (Or.inl rfl) rfl S hE hG ht kk
  · cases hv
theorem cg_X1_118 {a : Nat} {v : Int32} (hdg : decode cc pc = .ok (.getfield 118, 3)) (S : CallFix p m c cc nL s args lw_all RX1) (hE : gEnv E s) (hG : gC E G H) (hv : cGetI G [11] a 14 = some v) (kk : W p l e R s m args below meth c H locs cells slots Q (F0 m (pc + 3) ls (.int v :: rest))) : W p l e R s m args below meth c H locs cells slots Q (F0 m pc ls (.ref a :: rest)) := by
  unfold cGetI at hv
  split at hv
  · next ht =>
    cases hv
    have ht := List.mem_singleton.mp ht
    exact c_getv (ci := 10) (k := 14) hdg (Or.inr ⟨_, lw_nw q647 rfl⟩) rfl in_X3 (by decide) (by decide) (Or.inl rfl) rfl S hE hG ht kk
  · cases hv
theorem cg_X1_133 {a : Nat} {v : Int32} (hdg : decode cc pc = .ok (.getfield 133, 3)) (S : CallFix p m c cc nL s args lw_all RX1) (hE : gEnv E s) (hG : gC E G H) (hv : cGetI G [9] a 5 = some v) (kk : W p l e R s m args below meth c H locs cells slots Q (F0 m (pc + 3) ls (.int v :: rest))) : W p l e R s m args below meth c H locs cells slots Q (F0 m pc ls (.ref a :: rest)) := by
  unfold cGetI at hv
  split at hv
  · next ht =>
    cases hv
    have ht := List.mem_singleton.mp ht
    exact c_getv (ci := 8) (k := 5) hdg (Or.inl q193) rfl in_X1 (by decide) (by decide) (Or.inl rfl) rfl S hE hG ht kk
  · cases hv
theorem cp_X1_133 {a : Nat} {v : Int32} (hdg : decode cc pc = .ok (.putfield 133, 3)) (S : CallFix p m c cc nL s args lw_all RX1) (hE : gEnv E s) (hG : gC E G H) (hS : va_S (gx_C E) s.heap H locs) (hC0 : gC E Gz s.heap) (hv : cPutI G [9] a 5 v = some G1) (kk : ∀ (H1 : Heap) (locs1 : List Loc), gC E G1 H1 → va_S (gx_C E) s.heap H1 locs1 → WC E p l e R s m args below meth c H1 locs1 Q (F0 m (pc + 3) ls rest)) : WC E p l e R s m args below meth c H locs Q (F0 m pc ls (.int v :: .ref a :: rest)) := by
  unfold cPutI at hv
  split at hv
  · next ht =>
    cases hv
    have ht := List.mem_singleton.mp ht
    exact c_putv (ci := 8) (k := 5) (v := .int v) (G' := cSetI G a 5 v) hdg (Or.inl q193) rfl in_X1 tyX1_ok nmX1 (by decide) (Or.inl rfl) (by decide) (Or.inl rfl) (tyX1_ok 5 (by decide)) rfl rfl S hE hG hS ht (by decide) rfl rfl rfl rfl rfl rfl c_othI (c_hvI (fun _ _ _ => rfl)) hC0.2.2.2.2.2 kk
  · cases hv
theorem cg_X1_136 {a : Nat} {v : Int32} (hdg : decode cc pc = .ok (.getfield 136, 3)) (S : CallFix p m c cc nL s args lw_all RX1) (hE : gEnv E s) (hG : gC E G H) (hv : cGetI G [9] a 6 = some v) (kk : W p l e R s m args below meth c H locs cells slots Q (F0 m (pc + 3) ls (.int v :: rest))) : W p l e R s m args below meth c H locs cells slots Q (F0 m pc ls (.ref a :: rest)) := by
  unfold cGetI at hv
  split at hv
  · next ht =>
    cases hv
    have ht := List.mem_singleton.mp ht
    exact c_getv (ci := 8) (k := 6) hdg (Or.inl q195) rfl in_X1 (by decide) (by decide) (Or.inl rfl) rfl S hE hG ht kk
  · cases hv
theorem cp_X1_136 {a : Nat} {v : Int32} (hdg : decode cc pc = .ok (.putfield 136, 3)) (S : CallFix p m c cc nL s args lw_all RX1) (hE : gEnv E s) (hG : gC E G H) (hS : va_S (gx_C E) s.heap H locs) (hC0 : gC E Gz s.heap) (hv : cPutI G [9] a 6 v = some G1) (kk : ∀ (H1 : Heap) (locs1 : List Loc), gC E G1 H1 → va_S (gx_C E) s.heap H1 locs1 → WC E p l e R s m args below meth c H1 locs1 Q (F0 m (pc + 3) ls rest)) : WC E p l e R s m args below meth c H locs Q (F0 m pc ls (.int v :: .ref a :: rest)) := by
  unfold cPutI at hv
  split at hv
  · next ht =>
    cases hv
    have ht := List.mem_singleton.mp ht
    exact c_putv (ci := 8) (k := 6) (v := .int v) (G' := cSetI G a 6 v) hdg (Or.inl q195) rfl in_X1 tyX1_ok nmX1 (by decide) (Or.inl rfl) (by decide) (Or.inl rfl) (tyX1_ok 6 (by decide)) rfl rfl S hE hG hS ht (by decide) rfl rfl rfl rfl rfl rfl c_othI (c_hvI (fun _ _ _ => rfl)) hC0.2.2.2.2.2 kk
  · cases hv
theorem cg_X1_139 {a : Nat} {v : Int32} (hdg : decode cc pc = .ok (.getfield 139, 3)) (S : CallFix p m c cc nL s args lw_all RX1) (hE : gEnv E s) (hG : gC E G H) (hv : cGetI G [9] a 8 = some v) (kk : W p l e R s m args below meth c H locs cells slots Q (F0 m (pc + 3) ls (.int v :: rest))) : W p l e R s m args below meth c H locs cells slots Q (F0 m pc ls (.ref a :: rest)) := by
  unfold cGetI at hv
  split at hv
  · next ht =>
    cases hv
    have ht := List.mem_singleton.mp ht
    exact c_getv (ci := 8) (k := 8) hdg (Or.inl q200) rfl in_X1 (by decide) (by decide) (Or.inl rfl) rfl S hE hG ht kk
  · cases hv
theorem cp_X1_139 {a : Nat} {v : Int32} (hdg : decode cc pc = .ok (.putfield 139, 3)) (S : CallFix p m c cc nL s args lw_all RX1) (hE : gEnv E s) (hG : gC E G H) (hS : va_S (gx_C E) s.heap H locs) (hC0 : gC E Gz s.heap) (hv : cPutI G [9] a 8 v = some G1) (kk : ∀ (H1 : Heap) (locs1 : List Loc), gC E G1 H1 → va_S (gx_C E) s.heap H1 locs1 → WC E p l e R s m args below meth c H1 locs1 Q (F0 m (pc + 3) ls rest)) : WC E p l e R s m args below meth c H locs Q (F0 m pc ls (.int v :: .ref a :: rest)) := by
  unfold cPutI at hv
  split at hv
  · next ht =>
    cases hv
    have ht := List.mem_singleton.mp ht
    exact c_putv (ci := 8) (k := 8) (v := .int v) (G' := cSetI G a 8 v) hdg (Or.inl q200) rfl in_X1 tyX1_ok nmX1 (by decide) (Or.inl rfl) (by decide) (Or.inl rfl) (tyX1_ok 8 (by decide)) rfl rfl S hE hG hS ht (by decide) rfl rfl rfl rfl rfl rfl c_othI (c_hvI (fun _ _ _ => rfl)) hC0.2.2.2.2.2 kk
  · cases hv
theorem cg_X1_142 {a : Nat} {v : Int32} (hdg : decode cc pc = .ok (.getfield 142, 3)) (S : CallFix p m c cc nL s args lw_all RX1) (hE : gEnv E s) (hG : gC E G H) (hv : cGetI G [9] a 9 = some v) (kk : W p l e R s m args below meth c H locs cells slots Q (F0 m (pc + 3) ls (.int v :: rest))) : W p l e R s m args below meth c H locs cells slots Q (F0 m pc ls (.ref a :: rest)) := by
  unfold cGetI at hv
  split at hv
  · next ht =>
    cases hv
    have ht := List.mem_singleton.mp ht
    exact c_getv (ci := 8) (k := 9) hdg (Or.inl q201) rfl in_X1 (by decide) (by decide) (Or.inl rfl) rfl S hE hG ht kk
  · cases hv
theorem cp_X1_142 {a : Nat} {v : Int32} (hdg : decode cc pc = .ok (.putfield 142, 3)) (S : CallFix p m c cc nL s args lw_all RX1) (hE : gEnv E s) (hG : gC E G H) (hS : va_S (gx_C E) s.heap H locs) (hC0 : gC E Gz s.heap) (hv : cPutI G [9] a 9 v = some G1) (kk : ∀ (H1 : Heap) (locs1 : List Loc), gC E G1 H1 → va_S (gx_C E) s.heap H1 locs1 → WC E p l e R s m args below meth c H1 locs1 Q (F0 m (pc + 3) ls rest)) : WC E p l e R s m args below meth c H locs Q (F0 m pc ls (.int v :: .ref a :: rest)) := by
  unfold cPutI at hv
  split at hv
  · next ht =>
    cases hv
    have ht := List.mem_singleton.mp ht
    exact c_putv (ci := 8) (k := 9) (v := .int v) (G' := cSetI G a 9 v) hdg (Or.inl q201) rfl in_X1 tyX1_ok nmX1 (by decide) (Or.inl rfl) (by decide) (Or.inl rfl) (tyX1_ok 9 (by decide)) rfl rfl S hE hG hS ht (by decide) rfl rfl rfl rfl rfl rfl c_othI (c_hvI (fun _ _ _ => rfl)) hC0.2.2.2.2.2 kk
  · cases hv
theorem cg_X1_145 {a : Nat} {v : Int32} (hdg : decode cc pc = .ok (.getfield 145, 3)) (S : CallFix p m c cc nL s args lw_all RX1) (hE : gEnv E s) (hG : gC E G H) (hv : cGetI G [9] a 16 = some v) (kk : W p l e R s m args below meth c H locs cells slots Q (F0 m (pc + 3) ls (.int v :: rest))) : W p l e R s m args below meth c H locs cells slots Q (F0 m pc ls (.ref a :: rest)) := by
  unfold cGetI at hv
  split at hv
  · next ht =>
    cases hv
    have ht := List.mem_singleton.mp ht
    exact c_getv (ci := 8) (k := 16) hdg (Or.inl q209) rfl in_X1 (by decide) (by decide) (Or.inl rfl) rfl S hE hG ht kk
  · cases hv
theorem cp_X1_145 {a : Nat} {v : Int32} (hdg : decode cc pc = .ok (.putfield 145, 3)) (S : CallFix p m c cc nL s args lw_all RX1) (hE : gEnv E s) (hG : gC E G H) (hS : va_S (gx_C E) s.heap H locs) (hC0 : gC E Gz s.heap) (hv : cPutI G [9] a 16 v = some G1) (kk : ∀ (H1 : Heap) (locs1 : List Loc), gC E G1 H1 → va_S (gx_C E) s.heap H1 locs1 → WC E p l e R s m args below meth c H1 locs1 Q (F0 m (pc + 3) ls rest)) : WC E p l e R s m args below meth c H locs Q (F0 m pc ls (.int v :: .ref a :: rest)) := by
  unfold cPutI at hv
  split at hv
  · next ht =>
    cases hv
    have ht := List.mem_singleton.mp ht
    exact c_putv (ci := 8) (k := 16) (v := .int v) (G' := cSetI G a 16 v) hdg (Or.inl q209) rfl in_X1 tyX1_ok nmX1 (by decide) (Or.inl rfl) (by decide) (Or.inl rfl) (tyX1_ok 16 (by decide)) rfl rfl S hE hG hS ht (by decide) rfl rfl rfl rfl rfl rfl c_othI (c_hvI (fun _ _ _ => rfl)) hC0.2.2.2.2.2 kk
  · cases hv
theorem cg_X1_148 {a : Nat} {v : Nat} (hdg : decode cc pc = .ok (.getfield 148, 3)) (S : CallFix p m c cc nL s args lw_all RX1) (hE : gEnv E s) (hG : gC E G H) (hv : cGetR G [11] a 11 = some v) (kk : W p l e R s m args below meth c H locs cells slots Q (F0 m (pc + 3) ls (.ref v :: rest))) : W p l e R s m args below meth c H locs cells slots Q (F0 m pc ls (.ref a :: rest)) := by
  unfold cGetR at hv
  split at hv
  · next ht =>
    have ht := List.mem_singleton.mp ht
    exact c_getv (ci := 10) (k := 11) hdg (Or.inr ⟨_, lw_nw q641 rfl⟩) rfl in_X3 (by decide) (by decide) (Or.inl rfl) (by show va_rf (cR G a 11) = _; rw [hv]; rfl) S hE hG ht kk
  · cases hv
theorem cg_X1_151 {a : Nat} {v : Int32} (hdg : decode cc pc = .ok (.getfield 151, 3)) (S : CallFix p m c cc nL s args lw_all RX1) (hE : gEnv E s) (hG : gC E G H) (hv : cGetI G [14, 18, 20, 21, 23, 25, 26, 27, 28] a 2 = some v) (kk : W p l e R s m args below meth c H locs cells slots Q (F0 m (pc + 3) ls (.int v :: rest))) : W p l e R s m args below meth c H locs cells slots Q (F0 m pc ls (.ref a :: rest)) := by
  unfold cGetI at hv
  split at hv
  · next ht =>
    cases hv
    simp only [List.mem_cons, List.not_mem_nil, or_false] at ht
    rcases ht with ht | ht | ht | ht | ht | ht | ht | ht | ht
    · exact c_getv (ci := 13) (k := 2) hdg (Or.inl q1141) rfl in_X7 (by decide) (by decide) (Or.inl rfl) rfl S hE hG ht kk
    · exact c_getv (ci := 17) (k := 2) hdg (Or.inl q1141) rfl in_X11 (by decide) (by decide) (Or.inl rfl) rfl S hE hG ht kk
    · exact c_getv (ci := 19) (k := 2) hdg (Or.inl q1141) rfl in_X13 (by decide) (by decide) (Or.inl rfl) rfl S hE hG ht kk
    · exact c_getv (ci := 20) (k := 2) hdg (Or.inl q1141) rfl in_X14 (by decide) (by decide) (Or.inl rfl) rfl S hE hG ht kk
    · exact c_getv (ci := 22) (k := 2) hdg (Or.inl q1141) rfl in_X16 (by decide) (by decide) (Or.inl rfl) rfl S hE hG ht kk
    · exact c_getv (ci := 24) (k := 2) hdg (Or.inl q1141) rfl in_X18 (by decide) (by decide) (Or.inl rfl) rfl S hE hG ht kk
    · exact c_getv (ci := 25) (k := 2) hdg (Or.inl q1141) rfl in_X19 (by decide) (by decide) (Or.inl rfl) rfl S hE hG ht kk
    · exact c_getv (ci := 26) (k := 2) hdg (Or.inl q1141) rfl in_X20 (by decide) (by decide) (Or.inl rfl) rfl S hE hG ht kk
    · exact c_getv (ci := 27) (k := 2) hdg (Or.inl q1141) rfl in_X21 (by decide) (by decide) (Or.inl rfl) rfl S hE hG ht kk
  · cases hv
theorem cp_X1_151 {a : Nat} {v : Int32} (hdg : decode cc pc = .ok (.putfield 151, 3)) (S : CallFix p m c cc nL s args lw_all RX1) (hE : gEnv E s) (hG : gC E G H) (hS : va_S (gx_C E) s.heap H locs) (hC0 : gC E Gz s.heap) (hv : cPutI G [14, 18, 20, 21, 23, 25, 26, 27, 28] a 2 v = some G1) (kk : ∀ (H1 : Heap) (locs1 : List Loc), gC E G1 H1 → va_S (gx_C E) s.heap H1 locs1 → WC E p l e R s m args below meth c H1 locs1 Q (F0 m (pc + 3) ls rest)) : WC E p l e R s m args below meth c H locs Q (F0 m pc ls (.int v :: .ref a :: rest)) := by
  unfold cPutI at hv
  split at hv
  · next ht =>
    cases hv
    simp only [List.mem_cons, List.not_mem_nil, or_false] at ht
    rcases ht with ht | ht | ht | ht | ht | ht | ht | ht | ht
    · exact c_putv (ci := 13) (k := 2) (v := .int v) (G' := cSetI G a 2 v) hdg (Or.inl q1141) rfl in_X7 tyX7_ok nmX7 (by decide) (Or.inl rfl) (by decide) (Or.inl rfl) (tyX7_ok 2 (by decide)) rfl rfl S hE hG hS ht (by decide) rfl rfl rfl rfl rfl rfl c_othI (c_hvI (fun _ _ _ => rfl)) hC0.2.2.2.2.2 kk
    · exact c_putv (ci := 17) (k := 2) (v := .int v) (G' := cSetI G a 2 v) hdg (Or.inl q1141) rfl in_X11 tyX11_ok nmX11 (by decide) (Or.inl rfl) (by decide) (Or.inl rfl) (tyX11_ok 2 (by decide)) rfl rfl S hE hG hS ht (by decide) rfl rfl rfl rfl rfl rfl c_othI (c_hvI (fun _ _ _ => rfl)) hC0.2.2.2.2.2 kk
    · exact c_putv (ci := 19) (k := 2) (v := .int v) (G' := cSetI G a 2 v) hdg (Or.inl q1141) rfl in_X13 tyX13_ok nmX13 (by decide) (Or.inl rfl) (by decide) (Or.inl rfl) (tyX13_ok 2 (by decide)) rfl rfl S hE hG hS ht (by decide) rfl rfl rfl rfl rfl rfl c_othI (c_hvI (fun _ _ _ => rfl)) hC0.2.2.2.2.2 kk
    · exact c_putv (ci := 20) (k := 2) (v := .int v) (G' := cSetI G a 2 v) hdg (Or.inl q1141) rfl in_X14 tyX14_ok nmX14 (by decide) (Or.inl rfl) (by decide) (Or.inl rfl) (tyX14_ok 2 (by decide)) rfl rfl S hE hG hS ht (by decide) rfl rfl rfl rfl rfl rfl c_othI (c_hvI (fun _ _ _ => rfl)) hC0.2.2.2.2.2 kk
    · exact c_putv (ci := 22) (k := 2) (v := .int v) (G' := cSetI G a 2 v) hdg (Or.inl q1141) rfl in_X16 tyX16_ok nmX16 (by decide) (Or.inl rfl) (by decide) (Or.inl rfl) (tyX16_ok 2 (by decide)) rfl rfl S hE hG hS ht (by decide) rfl rfl rfl rfl rfl rfl c_othI (c_hvI (fun _ _ _ => rfl)) hC0.2.2.2.2.2 kk
    · exact c_putv (ci := 24) (k := 2) (v := .int v) (G' := cSetI G a 2 v) hdg (Or.inl q1141) rfl in_X18 tyX18_ok nmX18 (by decide) (Or.inl rfl) (by decide) (Or.inl rfl) (tyX18_ok 2 (by decide)) rfl rfl S hE hG hS ht (by decide) rfl rfl rfl rfl rfl rfl c_othI (c_hvI (fun _ _ _ => rfl)) hC0.2.2.2.2.2 kk
    · exact c_putv (ci := 25) (k := 2) (v := .int v) (G' := cSetI G a 2 v) hdg (Or.inl q1141) rfl in_X19 tyX19_ok nmX19 (by decide) (Or.inl rfl) (by decide) (Or.inl rfl) (tyX19_ok 2 (by decide)) rfl rfl S hE hG hS ht (by decide) rfl rfl rfl rfl rfl rfl c_othI (c_hvI (fun _ _ _ => rfl)) hC0.2.2.2.2.2 kk
    · exact c_putv (ci := 26) (k := 2) (v := .int v) (G' := cSetI G a 2 v) hdg (Or.inl q1141) rfl in_X20 tyX20_ok nmX20 (by decide) (Or.inl rfl) (by decide) (Or.inl rfl) (tyX20_ok 2 (by decide)) rfl rfl S hE hG hS ht (by decide) rfl rfl rfl rfl rfl rfl c_othI (c_hvI (fun _ _ _ => rfl)) hC0.2.2.2.2.2 kk
    · exact c_putv (ci := 27) (k := 2) (v := .int v) (G' := cSetI G a 2 v) hdg (Or.inl q1141) rfl in_X21 tyX21_ok nmX21 (by decide) (Or.inl rfl) (by decide) (Or.inl rfl) (tyX21_ok 2 (by decide)) rfl rfl S hE hG hS ht (by decide) rfl rfl rfl rfl rfl rfl c_othI (c_hvI (fun _ _ _ => rfl)) hC0.2.2.2.2.2 kk
  · cases hv
theorem cg_X1_154 {a : Nat} {v : Nat} (hdg : decode cc pc = .ok (.getfield 154, 3)) (S : CallFix p m c cc nL s args lw_all RX1) (hE : gEnv E s) (hG : gC E G H) (hv : cGetR G [14, 18, 20, 21, 23, 25, 26, 27, 28] a 1 = some v) (kk : W p l e R s m args below meth c H locs cells slots Q (F0 m (pc + 3) ls (.ref v :: rest))) : W p l e R s m args below meth c H locs cells slots Q (F0 m pc ls (.ref a :: rest)) := by
  unfold cGetR at hv
  split at hv
  · next ht =>
    simp only [List.mem_cons, List.not_mem_nil, or_false] at ht
    rcases ht with ht | ht | ht | ht | ht | ht | ht | ht | ht
    · exact c_getv (ci := 13) (k := 1) hdg (Or.inl q1139) rfl in_X7 (by decide) (by decide) (Or.inl rfl) (by show va_rf (cR G a 1) = _; rw [hv]; rfl) S hE hG ht kk
    · exact c_getv (ci := 17) (k := 1) hdg (Or.inl q1139) rfl in_X11 (by decide) (by decide) (Or.inl rfl) (by show va_rf (cR G a 1) = _; rw [hv]; rfl) S hE hG ht kk
    · exact c_getv (ci := 19) (k := 1) hdg (Or.inl q1139) rfl in_X13 (by decide) (by decide) (Or.inl rfl) (by show va_rf (cR G a 1) = _; rw [hv]; rfl) S hE hG ht kk
    · exact c_getv (ci := 20) (k := 1) hdg (Or.inl q1139) rfl in_X14 (by decide) (by decide) (Or.inl rfl) (by show va_rf (cR G a 1) = _; rw [hv]; rfl) S hE hG ht kk
    · exact c_getv (ci := 22) (k := 1) hdg (Or.inl q1139) rfl in_X16 (by decide) (by decide) (Or.inl rfl) (by show va_rf (cR G a 1) = _; rw [hv]; rfl) S hE hG ht kk
    · exact c_getv (ci := 24) (k := 1) hdg (Or.inl q1139) rfl in_X18 (by decide) (by decide) (Or.inl rfl) (by show va_rf (cR G a 1) = _; rw [hv]; rfl) S hE hG ht kk
    · exact c_getv (ci := 25) (k := 1) hdg (Or.inl q1139) rfl in_X19 (by decide) (by decide) (Or.inl rfl) (by show va_rf (cR G a 1) = _; rw [hv]; rfl) S hE hG ht kk
    · exact c_getv (ci := 26) (k := 1) hdg (Or.inl q1139) rfl in_X20 (by decide) (by decide) (Or.inl rfl) (by show va_rf (cR G a 1) = _; rw [hv]; rfl) S hE hG ht kk
    · exact c_getv (ci := 27) (k := 1) hdg (Or.inl q1139) rfl in_X21 (by decide) (by decide) (Or.inl rfl) (by show va_rf (cR G a 1) = _; rw [hv]; rfl) S hE hG ht kk
  · cases hv
theorem cg_X1_173 {a : Nat} {v : Int32} (hdg : decode cc pc = .ok (.getfield 173, 3)) (S : CallFix p m c cc nL s args lw_all RX1) (hE : gEnv E s) (hG : gC E G H) (hv : cGetI G [16] a 2 = some v) (kk : W p l e R s m args below meth c H locs cells slots Q (F0 m (pc + 3) ls (.int v :: rest))) : W p l e R s m args below meth c H locs cells slots Q (F0 m pc ls (.ref a :: rest)) := by
  unfold cGetI at hv
  split at hv
  · next ht =>
    cases hv
    have ht := List.mem_singleton.mp ht
    exact c_getv (ci := 15) (k := 2) hdg (Or.inr ⟨_, lw_nw q1085 rfl⟩) rfl in_X9 (by decide) (by decide) (Or.inl rfl) rfl S hE hG ht kk
  · cases hv
theorem cp_X1_173 {a : Nat} {v : Int32} (hdg : decode cc pc = .ok (.putfield 173, 3)) (S : CallFix p m c cc nL s args lw_all RX1) (hE : gEnv E s) (hG : gC E G H) (hS : va_S (gx_C E) s.heap H locs) (hC0 : gC E Gz s.heap) (hv : cPutI G [16] a 2 v = some G1) (kk : ∀ (H1 : Heap) (locs1 : List Loc), gC E G1 H1 → va_S (gx_C E) s.heap H1 locs1 → WC E p l e R s m args below meth c H1 locs1 Q (F0 m (pc + 3) ls rest)) : WC E p l e R s m args below meth c H locs Q (F0 m pc ls (.int v :: .ref a :: rest)) := by
  unfold cPutI at hv
  split at hv
  · next ht =>
    cases hv
    have ht := List.mem_singleton.mp ht
    exact c_putv (ci := 15) (k := 2) (v := .int v) (G' := cSetI G a 2 v) hdg (Or.inr ⟨_, lw_nw q1085 rfl⟩) rfl in_X9 tyX9_ok nmX9 (by decide) (Or.inl rfl) (by decide) (Or.inl rfl) (tyX9_ok 2 (by decide)) rfl rfl S hE hG hS ht (by decide) rfl rfl rfl rfl rfl rfl c_othI (c_hvI (fun _ _ _ => rfl)) hC0.2.2.2.2.2 kk
  · cases hv
theorem cg_X1_184 {a : Nat} {v : Int32} (hdg : decode cc pc = .ok (.getfield 184, 3)) (S : CallFix p m c cc nL s args lw_all RX1) (hE : gEnv E s) (hG : gC E G H) (hv : cGetI G [19] a 2 = some v) (kk : W p l e R s m args below meth c H locs cells slots Q (F0 m (pc + 3) ls (.int v :: rest))) : W p l e R s m args below meth c H locs cells slots Q (F0 m pc ls (.ref a :: rest)) := by
  unfold cGetI at hv
  split at hv
  · next ht =>
    cases hv
    have ht := List.mem_singleton.mp ht
    exact c_getv (ci := 18) (k := 2) hdg (Or.inr ⟨_, lw_nw q1174 rfl⟩) rfl in_X12 (by decide) (by decide) (Or.inl rfl) rfl S hE hG ht kk
  · cases hv
theorem cp_X1_184 {a : Nat} {v : Int32} (hdg : decode cc pc = .ok (.putfield 184, 3)) (S : CallFix p m c cc nL s args lw_all RX1) (hE : gEnv E s) (hG : gC E G H) (hS : va_S (gx_C E) s.heap H locs) (hC0 : gC E Gz s.heap) (hv : cPutI G [19] a 2 v = some G1) (kk : ∀ (H1 : Heap) (locs1 : List Loc), gC E G1 H1 → va_S (gx_C E) s.heap H1 locs1 → WC E p l e R s m args below meth c H1 locs1 Q (F0 m (pc + 3) ls rest)) : WC E p l e R s m args below meth c H locs Q (F0 m pc ls (.int v :: .ref a :: rest)) := by
  unfold cPutI at hv
  split at hv
  · next ht =>
    cases hv
    have ht := List.mem_singleton.mp ht
    exact c_putv (ci := 18) (k := 2) (v := .int v) (G' := cSetI G a 2 v) hdg (Or.inr ⟨_, lw_nw q1174 rfl⟩) rfl in_X12 tyX12_ok nmX12 (by decide) (Or.inl rfl) (by decide) (Or.inl rfl) (tyX12_ok 2 (by decide)) rfl rfl S hE hG hS ht (by decide) rfl rfl rfl rfl rfl rfl c_othI (c_hvI (fun _ _ _ => rfl)) hC0.2.2.2.2.2 kk
  · cases hv
theorem cp_X1_189 {a : Nat} {v : Int32} (hdg : decode cc pc = .ok (.putfield 189, 3)) (S : CallFix p m c cc nL s args lw_all RX1) (hE : gEnv E s) (hG : gC E G H) (hS : va_S (gx_C E) s.heap H locs) (hC0 : gC E Gz s.heap) (hv : cPutI G [19] a 4 v = some G1) (kk : ∀ (H1 : Heap) (locs1 : List Loc), gC E G1 H1 → va_S (gx_C E) s.heap H1 locs1 → WC E p l e R s m args below meth c H1 locs1 Q (F0 m (pc + 3) ls rest)) : WC E p l e R s m args below meth c H locs Q (F0 m pc ls (.int v :: .ref a :: rest)) := by
  unfold cPutI at hv
  split at hv
  · next ht =>
    cases hv
    have ht := List.mem_singleton.mp ht
    exact c_putv (ci := 18) (k := 4) (v := .int v) (G' := cSetI G a 4 v) hdg (Or.inr ⟨_, lw_nw q1179 rfl⟩) rfl in_X12 tyX12_ok nmX12 (by decide) (Or.inl rfl) (by decide) (Or.inl rfl) (tyX12_ok 4 (by decide)) rfl rfl S hE hG hS ht (by decide) rfl rfl rfl rfl rfl rfl c_othI (c_hvI (fun _ _ _ => rfl)) hC0.2.2.2.2.2 kk
  · cases hv
theorem cg_X1_204 {a : Nat} {v : Int32} (hdg : decode cc pc = .ok (.getfield 204, 3)) (S : CallFix p m c cc nL s args lw_all RX1) (hE : gEnv E s) (hG : gC E G H) (hv : cGetI G [16] a 3 = some v) (kk : W p l e R s m args below meth c H locs cells slots Q (F0 m (pc + 3) ls (.int v :: rest))) : W p l e R s m args below meth c H locs cells slots Q (F0 m pc ls (.ref a :: rest)) := by
  unfold cGetI at hv
  split at hv
  · next ht =>
    cases hv
    have ht := List.mem_singleton.mp ht
    exact c_getv (ci := 15) (k := 3) hdg (Or.inr ⟨_, lw_nw q1087 rfl⟩) rfl in_X9 (by decide) (by decide) (Or.inl rfl) rfl S hE hG ht kk
  · cases hv
theorem cp_X1_204 {a : Nat} {v : Int32} (hdg : decode cc pc = .ok (.putfield 204, 3)) (S : CallFix p m c cc nL s args lw_all RX1) (hE : gEnv E s) (hG : gC E G H) (hS : va_S (gx_C E) s.heap H locs) (hC0 : gC E Gz s.heap) (hv : cPutI G [16] a 3 v = some G1) (kk : ∀ (H1 : Heap) (locs1 : List Loc), gC E G1 H1 → va_S (gx_C E) s.heap H1 locs1 → WC E p l e R s m args below meth c H1 locs1 Q (F0 m (pc + 3) ls rest)) : WC E p l e R s m args below meth c H locs Q (F0 m pc ls (.int v :: .ref a :: rest)) := by
  unfold cPutI at hv
  split at hv
  · next ht =>
    cases hv
    have ht := List.mem_singleton.mp ht
    exact c_putv (ci := 15) (k := 3) (v := .int v) (G' := cSetI G a 3 v) hdg (Or.inr ⟨_, lw_nw q1087 rfl⟩) rfl in_X9 tyX9_ok nmX9 (by decide) (Or.inl rfl) (by decide) (Or.inl rfl) (tyX9_ok 3 (by decide)) rfl rfl S hE hG hS ht (by decide) rfl rfl rfl rfl rfl rfl c_othI (c_hvI (fun _ _ _ => rfl)) hC0.2.2.2.2.2 kk
  · cases hv
theorem cg_X1_207 {a : Nat} {v : Int32} (hdg : decode cc pc = .ok (.getfield 207, 3)) (S : CallFix p m c cc nL s args lw_all RX1) (hE : gEnv E s) (hG : gC E G H) (hv : cGetI G [19] a 3 = some v) (kk : W p l e R s m args below meth c H locs cells slots Q (F0 m (pc + 3) ls (.int v :: rest))) : W p l e R s m args below meth c H locs cells slots Q (F0 m pc ls (.ref a :: rest)) := by
  unfold cGetI at hv
  split at hv
  · next ht =>
    cases hv
    have ht := List.mem_singleton.mp ht
    exact c_getv (ci := 18) (k := 3) hdg (Or.inr ⟨_, lw_nw q1176 rfl⟩) rfl in_X12 (by decide) (by decide) (Or.inl rfl) rfl S hE hG ht kk
  · cases hv
theorem cp_X1_207 {a : Nat} {v : Int32} (hdg : decode cc pc = .ok (.putfield 207, 3)) (S : CallFix p m c cc nL s args lw_all RX1) (hE : gEnv E s) (hG : gC E G H) (hS : va_S (gx_C E) s.heap H locs) (hC0 : gC E Gz s.heap) (hv : cPutI G [19] a 3 v = some G1) (kk : ∀ (H1 : Heap) (locs1 : List Loc), gC E G1 H1 → va_S (gx_C E) s.heap H1 locs1 → WC E p l e R s m args below meth c H1 locs1 Q (F0 m (pc + 3) ls rest)) : WC E p l e R s m args below meth c H locs Q (F0 m pc ls (.int v :: .ref a :: rest)) := by
  unfold cPutI at hv
  split at hv
  · next ht =>
    cases hv
    have ht := List.mem_singleton.mp ht
    exact c_putv (ci := 18) (k := 3) (v := .int v) (G' := cSetI G a 3 v) hdg (Or.inr ⟨_, lw_nw q1176 rfl⟩) rfl in_X12 tyX12_ok nmX12 (by decide) (Or.inl rfl) (by decide) (Or.inl rfl) (tyX12_ok 3 (by decide)) rfl rfl S hE hG hS ht (by decide) rfl rfl rfl rfl rfl rfl c_othI (c_hvI (fun _ _ _ => rfl)) hC0.2.2.2.2.2 kk
  · cases hv
theorem cg_X1_214 {a : Nat} {v : Int32} (hdg : decode cc pc = .ok (.getfield 214, 3)) (S : CallFix p m c cc nL s args lw_all RX1) (hE : gEnv E s) (hG : gC E G H) (hv : cGetI G [24] a 1 = some v) (kk : W p l e R s m args below meth c H locs cells slots Q (F0 m (pc + 3) ls (.int v :: rest))) : W p l e R s m args below meth c H locs cells slots Q (F0 m pc ls (.ref a :: rest)) := by
  unfold cGetI at hv
  split at hv
  · next ht =>
    cases hv
    have ht := List.mem_singleton.mp ht
    exact c_getv (ci := 23) (k := 1) hdg (Or.inr ⟨_, lw_nw q1278 rfl⟩) rfl in_X17 (by decide) (by decide) (Or.inl rfl) rfl S hE hG ht kk
  · cases hv
theorem cp_X1_214 {a : Nat} {v : Int32} (hdg : decode cc pc = .ok (.putfield 214, 3)) (S : CallFix p m c cc nL s args lw_all RX1) (hE : gEnv E s) (hG : gC E G H) (hS : va_S (gx_C E) s.heap H locs) (hC0 : gC E Gz s.heap) (hv : cPutI G [24] a 1 v = some G1) (kk : ∀ (H1 : Heap) (locs1 : List Loc), gC E G1 H1 → va_S (gx_C E) s.heap H1 locs1 → WC E p l e R s m args below meth c H1 locs1 Q (F0 m (pc + 3) ls rest)) : WC E p l e R s m args below meth c H locs Q (F0 m pc ls (.int v :: .ref a :: rest)) := by
  unfold cPutI at hv
  split at hv
  · next ht =>
    cases hv
    have ht := List.mem_singleton.mp ht
    exact c_putv (ci := 23) (k := 1) (v := .int v) (G' := cSetI G a 1 v) hdg (Or.inr ⟨_, lw_nw q1278 rfl⟩) rfl in_X17 tyX17_ok nmX17 (by decide) (Or.inl rfl) (by decide) (Or.inl rfl) (tyX17_ok 1 (by decide)) rfl rfl S hE hG hS ht (by decide) rfl rfl rfl rfl rfl rfl c_othI (c_hvI (fun _ _ _ => rfl)) hC0.2.2.2.2.2 kk
  · cases hv
theorem cg_X1_225 {a : Nat} {v : Int32} (hdg : decode cc pc = .ok (.getfield 225, 3)) (S : CallFix p m c cc nL s args lw_all RX1) (hE : gEnv E s) (hG : gC E G H) (hv : cGetI G [22] a 0 = some v) (kk : W p l e R s m args below meth c H locs cells slots Q (F0 m (pc + 3) ls (.int v :: rest))) : W p l e R s m args below meth c H locs cells slots Q (F0 m pc ls (.ref a :: rest)) := by
  unfold cGetI at hv
  split at hv
  · next ht =>
    cases hv
    have ht := List.mem_singleton.mp ht
    exact c_getv (ci := 21) (k := 0) hdg (Or.inr ⟨_, lw_nw q1245 rfl⟩) rfl in_X15 (by decide) (by decide) (Or.inl rfl) rfl S hE hG ht kk
  · cases hv
theorem cp_X1_225 {a : Nat} {v : Int32} (hdg : decode cc pc = .ok (.putfield 225, 3)) (S : CallFix p m c cc nL s args lw_all RX1) (hE : gEnv E s) (hG : gC E G H) (hS : va_S (gx_C E) s.heap H locs) (hC0 : gC E Gz s.heap) (hv : cPutI G [22] a 0 v = some G1) (kk : ∀ (H1 : Heap) (locs1 : List Loc), gC E G1 H1 → va_S (gx_C E) s.heap H1 locs1 → WC E p l e R s m args below meth c H1 locs1 Q (F0 m (pc + 3) ls rest)) : WC E p l e R s m args below meth c H locs Q (F0 m pc ls (.int v :: .ref a :: rest)) := by
  unfold cPutI at hv
  split at hv
  · next ht =>
    cases hv
    have ht := List.mem_singleton.mp ht
    exact c_putv (ci := 21) (k := 0) (v := .int v) (G' := cSetI G a 0 v) hdg (Or.inr ⟨_, lw_nw q1245 rfl⟩) rfl in_X15 tyX15_ok nmX15 (by decide) (Or.inl rfl) (by decide) (Or.inl rfl) (tyX15_ok 0 (by decide)) rfl rfl S hE hG hS ht (by decide) rfl rfl rfl rfl rfl rfl c_othI (c_hvI (fun _ _ _ => rfl)) hC0.2.2.2.2.2 kk
  · cases hv
theorem cg_X1_230 {a : Nat} {v : Int32} (hdg : decode cc pc = .ok (.getfield 230, 3)) (S : CallFix p m c cc nL s args lw_all RX1) (hE : gEnv E s) (hG : gC E G H) (hv : cGetI G [17] a 3 = some v) (kk : W p l e R s m args below meth c H locs cells slots Q (F0 m (pc + 3) ls (.int v :: rest))) : W p l e R s m args below meth c H locs cells slots Q (F0 m pc ls (.ref a :: rest)) := by
  unfold cGetI at hv
  split at hv
  · next ht =>
    cases hv
    have ht := List.mem_singleton.mp ht
    exact c_getv (ci := 16) (k := 3) hdg (Or.inr ⟨_, lw_nw q1108 rfl⟩) rfl in_X10 (by decide) (by decide) (Or.inl rfl) rfl S hE hG ht kk
  · cases hv
theorem cp_X1_230 {a : Nat} {v : Int32} (hdg : decode cc pc = .ok (.putfield 230, 3)) (S : CallFix p m c cc nL s args lw_all RX1) (hE : gEnv E s) (hG : gC E G H) (hS : va_S (gx_C E) s.heap H locs) (hC0 : gC E Gz s.heap) (hv : cPutI G [17] a 3 v = some G1) (kk : ∀ (H1 : Heap) (locs1 : List Loc), gC E G1 H1 → va_S (gx_C E) s.heap H1 locs1 → WC E p l e R s m args below meth c H1 locs1 Q (F0 m (pc + 3) ls rest)) : WC E p l e R s m args below meth c H locs Q (F0 m pc ls (.int v :: .ref a :: rest)) := by
  unfold cPutI at hv
  split at hv
  · next ht =>
    cases hv
    have ht := List.mem_singleton.mp ht
    exact c_putv (ci := 16) (k := 3) (v := .int v) (G' := cSetI G a 3 v) hdg (Or.inr ⟨_, lw_nw q1108 rfl⟩) rfl in_X10 tyX10_ok nmX10 (by decide) (Or.inl rfl) (by decide) (Or.inl rfl) (tyX10_ok 3 (by decide)) rfl rfl S hE hG hS ht (by decide) rfl rfl rfl rfl rfl rfl c_othI (c_hvI (fun _ _ _ => rfl)) hC0.2.2.2.2.2 kk
  · cases hv
theorem cg_X1_233 {a : Nat} {v : Int32} (hdg : decode cc pc = .ok (.getfield 233, 3)) (S : CallFix p m c cc nL s args lw_all RX1) (hE : gEnv E s) (hG : gC E G H) (hv : cGetI G [17] a 6 = some v) (kk : W p l e R s m args below meth c H locs cells slots Q (F0 m (pc + 3) ls (.int v :: rest))) : W p l e R s m args below meth c H locs cells slots Q (F0 m pc ls (.ref a :: rest)) := by
  unfold cGetI at hv
  split at hv
  · next ht =>
    cases hv
    have ht := List.mem_singleton.mp ht
    exact c_getv (ci := 16) (k := 6) hdg (Or.inr ⟨_, lw_nw q1112 rfl⟩) rfl in_X10 (by decide) (by decide) (Or.inl rfl) rfl S hE hG ht kk
  · cases hv
theorem cg_X1_272 {a : Nat} {v : Int32} (hdg : decode cc pc = .ok (.getfield 272, 3)) (S : CallFix p m c cc nL s args lw_all RX1) (hE : gEnv E s) (hG : gC E G H) (hv : cGetI G [15] a 10 = some v) (kk : W p l e R s m args below meth c H locs cells slots Q (F0 m (pc + 3) ls (.int v :: rest))) : W p l e R s m args below meth c H locs cells slots Q (F0 m pc ls (.ref a :: rest)) := by
  unfold cGetI at hv
  split at hv
  · next ht =>
    cases hv
    have ht := List.mem_singleton.mp ht
    exact c_getv (ci := 14) (k := 10) hdg (Or.inr ⟨_, lw_nw q1038 rfl⟩) rfl in_X8 (by decide) (by decide) (Or.inl rfl) rfl S hE hG ht kk
  · cases hv
theorem cp_X1_272 {a : Nat} {v : Int32} (hdg : decode cc pc = .ok (.putfield 272, 3)) (S : CallFix p m c cc nL s args lw_all RX1) (hE : gEnv E s) (hG : gC E G H) (hS : va_S (gx_C E) s.heap H locs) (hC0 : gC E Gz s.heap) (hv : cPutI G [15] a 10 v = some G1) (kk : ∀ (H1 : Heap) (locs1 : List Loc), gC E G1 H1 → va_S (gx_C E) s.heap H1 locs1 → WC E p l e R s m args below meth c H1 locs1 Q (F0 m (pc + 3) ls rest)) : WC E p l e R s m args below meth c H locs Q (F0 m pc ls (.int v :: .ref a :: rest)) := by
  unfold cPutI at hv
  split at hv
  · next ht =>
    cases hv
    have ht := List.mem_singleton.mp ht
    exact c_putv (ci := 14) (k := 10) (v := .int v) (G' := cSetI G a 10 v) hdg (Or.inr ⟨_, lw_nw q1038 rfl⟩) rfl in_X8 tyX8_ok nmX8 (by decide) (Or.inl rfl) (by decide) (Or.inl rfl) (tyX8_ok 10 (by decide)) rfl rfl S hE hG hS ht (by decide) rfl rfl rfl rfl rfl rfl c_othI (c_hvI (fun _ _ _ => rfl)) hC0.2.2.2.2.2 kk
  · cases hv
theorem cg_X1_294 {a : Nat} {v : Int32} (hdg : decode cc pc = .ok (.getfield 294, 3)) (S : CallFix p m c cc nL s args lw_all RX1) (hE : gEnv E s) (hG : gC E G H) (hv : cGetI G [15] a 12 = some v) (kk : W p l e R s m args below meth c H locs cells slots Q (F0 m (pc + 3) ls (.int v :: rest))) : W p l e R s m args below meth c H locs cells slots Q (F0 m pc ls (.ref a :: rest)) := by
  unfold cGetI at hv
  split at hv
  · next ht =>
    cases hv
    have ht := List.mem_singleton.mp ht
    exact c_getv (ci := 14) (k := 12) hdg (Or.inr ⟨_, lw_nw q1042 rfl⟩) rfl in_X8 (by decide) (by decide) (Or.inl rfl) rfl S hE hG ht kk
  · cases hv
theorem cp_X1_294 {a : Nat} {v : Int32} (hdg : decode cc pc = .ok (.putfield 294, 3)) (S : CallFix p m c cc nL s args lw_all RX1) (hE : gEnv E s) (hG : gC E G H) (hS : va_S (gx_C E) s.heap H locs) (hC0 : gC E Gz s.heap) (hv : cPutZ G [15] a 12 v = some G1) (kk : ∀ (H1 : Heap) (locs1 : List Loc), gC E G1 H1 → va_S (gx_C E) s.heap H1 locs1 → WC E p l e R s m args below meth c H1 locs1 Q (F0 m (pc + 3) ls rest)) : WC E p l e R s m args below meth c H locs Q (F0 m pc ls (.int v :: .ref a :: rest)) := by
  unfold cPutZ at hv
  split at hv
  · next ht =>
    obtain ⟨ht, h01⟩ := ht
    cases hv
    have ht := List.mem_singleton.mp ht
    exact c_putv (ci := 14) (k := 12) (v := .int v) (G' := cSetI G a 12 v) hdg (Or.inr ⟨_, lw_nw q1042 rfl⟩) rfl in_X8 tyX8_ok nmX8 (by decide) (Or.inl rfl) (by decide) (Or.inl rfl) (tyX8_ok 12 (by decide)) (by rcases h01 with rfl | rfl <;> decide) (by rcases h01 with rfl | rfl <;> decide) S hE hG hS ht (by decide) rfl rfl rfl rfl rfl rfl c_othI (c_hvI (fun _ _ _ => rfl)) hC0.2.2.2.2.2 kk
  · cases hv
theorem cg_X1_302 {a : Nat} {v : Nat} (hdg : decode cc pc = .ok (.getfield 302, 3)) (S : CallFix p m c cc nL s args lw_all RX1) (hE : gEnv E s) (hG : gC E G H) (hv : cGetR G [15] a 2 = some v) (kk : W p l e R s m args below meth c H locs cells slots Q (F0 m (pc + 3) ls (.ref v :: rest))) : W p l e R s m args below meth c H locs cells slots Q (F0 m pc ls (.ref a :: rest)) := by
  unfold cGetR at hv
  split at hv
  · next ht =>
    have ht := List.mem_singleton.mp ht
    exact c_getv (ci := 14) (k := 2) hdg (Or.inr ⟨_, lw_nw q1026 rfl⟩) rfl in_X8 (by decide) (by decide) (Or.inl rfl) (by show va_rf (cR G a 2) = _; rw [hv]; rfl) S hE hG ht kk
  · cases hv
theorem cg_X1_305 {a : Nat} {v : Int32} (hdg : decode cc pc = .ok (.getfield 305, 3)) (S : CallFix p m c cc nL s args lw_all RX1) (hE : gEnv E s) (hG : gC E G H) (hv : cGetI G [15] a 9 = some v) (kk : W p l e R s m args below meth c H locs cells slots Q (F0 m (pc + 3) ls (.int v :: rest))) : W p l e R s m args below meth c H locs cells slots Q (F0 m pc ls (.ref a :: rest)) := by
  unfold cGetI at hv
  split at hv
  · next ht =>
    cases hv
    have ht := List.mem_singleton.mp ht
    exact c_getv (ci := 14) (k := 9) hdg (Or.inr ⟨_, lw_nw q1036 rfl⟩) rfl in_X8 (by decide) (by decide) (Or.inl rfl) rfl S hE hG ht kk
  · cases hv
theorem cp_X1_305 {a : Nat} {v : Int32} (hdg : decode cc pc = .ok (.putfield 305, 3)) (S : CallFix p m c cc nL s args lw_all RX1) (hE : gEnv E s) (hG : gC E G H) (hS : va_S (gx_C E) s.heap H locs) (hC0 : gC E Gz s.heap) (hv : cPutI G [15] a 9 v = some G1) (kk : ∀ (H1 : Heap) (locs1 : List Loc), gC E G1 H1 → va_S (gx_C E) s.heap H1 locs1 → WC E p l e R s m args below meth c H1 locs1 Q (F0 m (pc + 3) ls rest)) : WC E p l e R s m args below meth c H locs Q (F0 m pc ls (.int v :: .ref a :: rest)) := by
  unfold cPutI at hv
  split at hv
  · next ht =>
    cases hv
    have ht := List.mem_singleton.mp ht
    exact c_putv (ci := 14) (k := 9) (v := .int v) (G' := cSetI G a 9 v) hdg (Or.inr ⟨_, lw_nw q1036 rfl⟩) rfl in_X8 tyX8_ok nmX8 (by decide) (Or.inl rfl) (by decide) (Or.inl rfl) (tyX8_ok 9 (by decide)) rfl rfl S hE hG hS ht (by decide) rfl rfl rfl rfl rfl rfl c_othI (c_hvI (fun _ _ _ => rfl)) hC0.2.2.2.2.2 kk
  · cases hv
theorem cg_X1_319 {a : Nat} {v : Int32} (hdg : decode cc pc = .ok (.getfield 319, 3)) (S : CallFix p m c cc nL s args lw_all RX1) (hE : gEnv E s) (hG : gC E G H) (hv : cGetI G [29] a 0 = some v) (kk : W p l e R s m args below meth c H locs cells slots Q (F0 m (pc + 3) ls (.int v :: rest))) : W p l e R s m args below meth c H locs cells slots Q (F0 m pc ls (.ref a :: rest)) := by
  unfold cGetI at hv
  split at hv
  · next ht =>
    cases hv
    have ht := List.mem_singleton.mp ht
    exact c_getv (ci := 28) (k := 0) hdg (Or.inr ⟨_, lw_nw q1481 rfl⟩) rfl in_X22 (by decide) (by decide) (Or.inl rfl) rfl S hE hG ht kk
  · cases hv
theorem cg_X1_324 {a : Nat} {v : Int32} (hdg : decode cc pc = .ok (.getfield 324, 3)) (S : CallFix p m c cc nL s args lw_all RX1) (hE : gEnv E s) (hG : gC E G H) (hv : cGetI G [15] a 11 = some v) (kk : W p l e R s m args below meth c H locs cells slots Q (F0 m (pc + 3) ls (.int v :: rest))) : W p l e R s m args below meth c H locs cells slots Q (F0 m pc ls (.ref a :: rest)) := by
  unfold cGetI at hv
  split at hv
  · next ht =>
    cases hv
    have ht := List.mem_singleton.mp ht
    exact c_getv (ci := 14) (k := 11) hdg (Or.inr ⟨_, lw_nw q1040 rfl⟩) rfl in_X8 (by decide) (by decide) (Or.inl rfl) rfl S hE hG ht kk
  · cases hv
theorem cp_X1_324 {a : Nat} {v : Int32} (hdg : decode cc pc = .ok (.putfield 324, 3)) (S : CallFix p m c cc nL s args lw_all RX1) (hE : gEnv E s) (hG : gC E G H) (hS : va_S (gx_C E) s.heap H locs) (hC0 : gC E Gz s.heap) (hv : cPutI G [15] a 11 v = some G1) (kk : ∀ (H1 : Heap) (locs1 : List Loc), gC E G1 H1 → va_S (gx_C E) s.heap H1 locs1 → WC E p l e R s m args below meth c H1 locs1 Q (F0 m (pc + 3) ls rest)) : WC E p l e R s m args below meth c H locs Q (F0 m pc ls (.int v :: .ref a :: rest)) := by
  unfold cPutI at hv
  split at hv
  · next ht =>
    cases hv
    have ht := List.mem_singleton.mp ht
    exact c_putv (ci := 14) (k := 11) (v := .int v) (G' := cSetI G a 11 v) hdg (Or.inr ⟨_, lw_nw q1040 rfl⟩) rfl in_X8 tyX8_ok nmX8 (by decide) (Or.inl rfl) (by decide) (Or.inl rfl) (tyX8_ok 11 (by decide)) rfl rfl S hE hG hS ht (by decide) rfl rfl rfl rfl rfl rfl c_othI (c_hvI (fun _ _ _ => rfl)) hC0.2.2.2.2.2 kk
  · cases hv
theorem cg_X1_327 {a : Nat} {v : Int32} (hdg : decode cc pc = .ok (.getfield 327, 3)) (S : CallFix p m c cc nL s args lw_all RX1) (hE : gEnv E s) (hG : gC E G H) (hv : cGetI G [9] a 7 = some v) (kk : W p l e R s m args below meth c H locs cells slots Q (F0 m (pc + 3) ls (.int v :: rest))) : W p l e R s m args below meth c H locs cells slots Q (F0 m pc ls (.ref a :: rest)) := by
  unfold cGetI at hv
  split at hv
  · next ht =>
    cases hv
    have ht := List.mem_singleton.mp ht
    exact c_getv (ci := 8) (k := 7) hdg (Or.inl q199) rfl in_X1 (by decide) (by decide) (Or.inl rfl) rfl S hE hG ht kk
  · cases hv
theorem cp_X1_327 {a : Nat} {v : Int32} (hdg : decode cc pc = .ok (.putfield 327, 3)) (S : CallFix p m c cc nL s args lw_all RX1) (hE : gEnv E s) (hG : gC E G H) (hS : va_S (gx_C E) s.heap H locs) (hC0 : gC E Gz s.heap) (hv : cPutI G [9] a 7 v = some G1) (kk : ∀ (H1 : Heap) (locs1 : List Loc), gC E G1 H1 → va_S (gx_C E) s.heap H1 locs1 → WC E p l e R s m args below meth c H1 locs1 Q (F0 m (pc + 3) ls rest)) : WC E p l e R s m args below meth c H locs Q (F0 m pc ls (.int v :: .ref a :: rest)) := by
  unfold cPutI at hv
  split at hv
  · next ht =>
    cases hv
    have ht := List.mem_singleton.mp ht
    exact c_putv (ci := 8) (k := 7) (v := .int v) (G' := cSetI G a 7 v) hdg (Or.inl q199) rfl in_X1 tyX1_ok nmX1 (by decide) (Or.inl rfl) (by decide) (Or.inl rfl) (tyX1_ok 7 (by decide)) rfl rfl S hE hG hS ht (by decide) rfl rfl rfl rfl rfl rfl c_othI (c_hvI (fun _ _ _ => rfl)) hC0.2.2.2.2.2 kk
  · cases hv
theorem cg_X1_334 {a : Nat} {v : Int32} (hdg : decode cc pc = .ok (.getfield 334, 3)) (S : CallFix p m c cc nL s args lw_all RX1) (hE : gEnv E s) (hG : gC E G H) (hv : cGetI G [15] a 7 = some v) (kk : W p l e R s m args below meth c H locs cells slots Q (F0 m (pc + 3) ls (.int v :: rest))) : W p l e R s m args below meth c H locs cells slots Q (F0 m pc ls (.ref a :: rest)) := by
  unfold cGetI at hv
  split at hv
  · next ht =>
    cases hv
    have ht := List.mem_singleton.mp ht
    exact c_getv (ci := 14) (k := 7) hdg (Or.inr ⟨_, lw_nw q1032 rfl⟩) rfl in_X8 (by decide) (by decide) (Or.inl rfl) rfl S hE hG ht kk
  · cases hv
theorem cp_X1_334 {a : Nat} {v : Int32} (hdg : decode cc pc = .ok (.putfield 334, 3)) (S : CallFix p m c cc nL s args lw_all RX1) (hE : gEnv E s) (hG : gC E G H) (hS : va_S (gx_C E) s.heap H locs) (hC0 : gC E Gz s.heap) (hv : cPutI G [15] a 7 v = some G1) (kk : ∀ (H1 : Heap) (locs1 : List Loc), gC E G1 H1 → va_S (gx_C E) s.heap H1 locs1 → WC E p l e R s m args below meth c H1 locs1 Q (F0 m (pc + 3) ls rest)) : WC E p l e R s m args below meth c H locs Q (F0 m pc ls (.int v :: .ref a :: rest)) := by
  unfold cPutI at hv
  split at hv
  · next ht =>
    cases hv
    have ht := List.mem_singleton.mp ht
    exact c_putv (ci := 14) (k := 7) (v := .int v) (G' := cSetI G a 7 v) hdg (Or.inr ⟨_, lw_nw q1032 rfl⟩) rfl in_X8 tyX8_ok nmX8 (by decide) (Or.inl rfl) (by decide) (Or.inl rfl) (tyX8_ok 7 (by decide)) rfl rfl S hE hG hS ht (by decide) rfl rfl rfl rfl rfl rfl c_othI (c_hvI (fun _ _ _ => rfl)) hC0.2.2.2.2.2 kk
  · cases hv
theorem cg_X1_337 {a : Nat} {v : Option Nat} (hdg : decode cc pc = .ok (.getfield 337, 3)) (S : CallFix p m c cc nL s args lw_all RX1) (hE : gEnv E s) (hG : gC E G H) (hv : cGetQ G [29] a 2 = some v) (kk : W p l e R s m args below meth c H locs cells slots Q (F0 m (pc + 3) ls (va_rf v :: rest))) : W p l e R s m args below meth c H locs cells slots Q (F0 m pc ls (.ref a :: rest)) := by
  unfold cGetQ at hv
  split at hv
  · next ht =>
    cases hv
    have ht := List.mem_singleton.mp ht
    exact c_getv (ci := 28) (k := 2) hdg (Or.inr ⟨_, lw_nw q1486 rfl⟩) rfl in_X22 (by decide) (by decide) (Or.inl rfl) rfl S hE hG ht kk
  · cases hv
theorem cg_X1_362 {a : Nat} {v : Option Nat} (hdg : decode cc pc = .ok (.getfield 362, 3)) (S : CallFix p m c cc nL s args lw_all RX1) (hE : gEnv E s) (hG : gC E G H) (hv : cGetQ G [29] a 3 = some v) (kk : W p l e R s m args below meth c H locs cells slots Q (F0 m (pc + 3) ls (va_rf v :: rest))) : W p l e R s m args below meth c H locs cells slots Q (F0 m pc ls (.ref a :: rest)) := by
  unfold cGetQ at hv
  split at hv
  · next ht =>
    cases hv
    have ht := List.mem_singleton.mp ht
    exact c_getv (ci := 28) (k := 3) hdg (Or.inr ⟨_, lw_nw q1488 rfl⟩) rfl in_X22 (by decide) (by decide) (Or.inl rfl) rfl S hE hG ht kk
  · cases hv
theorem cg_X1_376 {a : Nat} {v : Int32} (hdg : decode cc pc = .ok (.getfield 376, 3)) (S : CallFix p m c cc nL s args lw_all RX1) (hE : gEnv E s) (hG : gC E G H) (hv : cGetI G [29] a 4 = some v) (kk : W p l e R s m args below meth c H locs cells slots Q (F0 m (pc + 3) ls (.int v :: rest))) : W p l e R s m args below meth c H locs cells slots Q (F0 m pc ls (.ref a :: rest)) := by
  unfold cGetI at hv
  split at hv
  · next ht =>
    cases hv
    have ht := List.mem_singleton.mp ht
    exact c_getv (ci := 28) (k := 4) hdg (Or.inr ⟨_, lw_nw q1490 rfl⟩) rfl in_X22 (by decide) (by decide) (Or.inl rfl) rfl S hE hG ht kk
  · cases hv
theorem cg_X1_383 {a : Nat} {v : Nat} (hdg : decode cc pc = .ok (.getfield 383, 3)) (S : CallFix p m c cc nL s args lw_all RX1) (hE : gEnv E s) (hG : gC E G H) (hv : cGetR G [15] a 1 = some v) (kk : W p l e R s m args below meth c H locs cells slots Q (F0 m (pc + 3) ls (.ref v :: rest))) : W p l e R s m args below meth c H locs cells slots Q (F0 m pc ls (.ref a :: rest)) := by
  unfold cGetR at hv
  split at hv
  · next ht =>
    have ht := List.mem_singleton.mp ht
    exact c_getv (ci := 14) (k := 1) hdg (Or.inr ⟨_, lw_nw q1024 rfl⟩) rfl in_X8 (by decide) (by decide) (Or.inl rfl) (by show va_rf (cR G a 1) = _; rw [hv]; rfl) S hE hG ht kk
  · cases hv
theorem cg_X1_390 {a : Nat} {v : Int32} (hdg : decode cc pc = .ok (.getfield 390, 3)) (S : CallFix p m c cc nL s args lw_all RX1) (hE : gEnv E s) (hG : gC E G H) (hv : cGetI G [29] a 5 = some v) (kk : W p l e R s m args below meth c H locs cells slots Q (F0 m (pc + 3) ls (.int v :: rest))) : W p l e R s m args below meth c H locs cells slots Q (F0 m pc ls (.ref a :: rest)) := by
  unfold cGetI at hv
  split at hv
  · next ht =>
    cases hv
    have ht := List.mem_singleton.mp ht
    exact c_getv (ci := 28) (k := 5) hdg (Or.inr ⟨_, lw_nw q1494 rfl⟩) rfl in_X22 (by decide) (by decide) (Or.inl rfl) rfl S hE hG ht kk
  · cases hv
theorem cg_X1_409 {a : Nat} {v : Int32} (hdg : decode cc pc = .ok (.getfield 409, 3)) (S : CallFix p m c cc nL s args lw_all RX1) (hE : gEnv E s) (hG : gC E G H) (hv : cGetI G [15] a 8 = some v) (kk : W p l e R s m args below meth c H locs cells slots Q (F0 m (pc + 3) ls (.int v :: rest))) : W p l e R s m args below meth c H locs cells slots Q (F0 m pc ls (.ref a :: rest)) := by
  unfold cGetI at hv
  split at hv
  · next ht =>
    cases hv
    have ht := List.mem_singleton.mp ht
    exact c_getv (ci := 14) (k := 8) hdg (Or.inr ⟨_, lw_nw q1033 rfl⟩) rfl in_X8 (by decide) (by decide) (Or.inl rfl) rfl S hE hG ht kk
  · cases hv
theorem cp_X1_409 {a : Nat} {v : Int32} (hdg : decode cc pc = .ok (.putfield 409, 3)) (S : CallFix p m c cc nL s args lw_all RX1) (hE : gEnv E s) (hG : gC E G H) (hS : va_S (gx_C E) s.heap H locs) (hC0 : gC E Gz s.heap) (hv : cPutI G [15] a 8 v = some G1) (kk : ∀ (H1 : Heap) (locs1 : List Loc), gC E G1 H1 → va_S (gx_C E) s.heap H1 locs1 → WC E p l e R s m args below meth c H1 locs1 Q (F0 m (pc + 3) ls rest)) : WC E p l e R s m args below meth c H locs Q (F0 m pc ls (.int v :: .ref a :: rest)) := by
  unfold cPutI at hv
  split at hv
  · next ht =>
    cases hv
    have ht := List.mem_singleton.mp ht
    exact c_putv (ci := 14) (k := 8) (v := .int v) (G' := cSetI G a 8 v) hdg (Or.inr ⟨_, lw_nw q1033 rfl⟩) rfl in_X8 tyX8_ok nmX8 (by decide) (Or.inl rfl) (by decide) (Or.inl rfl) (tyX8_ok 8 (by decide)) rfl rfl S hE hG hS ht (by decide) rfl rfl rfl rfl rfl rfl c_othI (c_hvI (fun _ _ _ => rfl)) hC0.2.2.2.2.2 kk
  · cases hv
theorem cg_X1_426 {a : Nat} {v : Int32} (hdg : decode cc pc = .ok (.getfield 426, 3)) (S : CallFix p m c cc nL s args lw_all RX1) (hE : gEnv E s) (hG : gC E G H) (hv : cGetI G [14, 18, 20, 21, 23, 25, 26, 27, 28] a 0 = some v) (kk : W p l e R s m args below meth c H locs cells slots Q (F0 m (pc + 3) ls (.int v :: rest))) : W p l e R s m args below meth c H locs cells slots Q (F0 m pc ls (.ref a :: rest)) := by
  unfold cGetI at hv
  split at hv
  · next ht =>
    cases hv
    simp only [List.mem_cons, List.not_mem_nil, or_false] at ht
    rcases ht with ht | ht | ht | ht | ht | ht | ht | ht | ht
    · exact c_getv (ci := 13) (k := 0) hdg (Or.inl q1135) rfl in_X7 (by decide) (by decide) (Or.inl rfl) rfl S hE hG ht kk
    · exact c_getv (ci := 17) (k := 0) hdg (Or.inl q1135) rfl in_X11 (by decide) (by decide) (Or.inl rfl) rfl S hE hG ht kk
    · exact c_getv (ci := 19) (k := 0) hdg (Or.inl q1135) rfl in_X13 (by decide) (by decide) (Or.inl rfl) rfl S hE hG ht kk
    · exact c_getv (ci := 20) (k := 0) hdg (Or.inl q1135) rfl in_X14 (by decide) (by decide) (Or.inl rfl) rfl S hE hG ht kk
    · exact c_getv (ci := 22) (k := 0) hdg (Or.inl q1135) rfl in_X16 (by decide) (by decide) (Or.inl rfl) rfl S hE hG ht kk
    · exact c_getv (ci := 24) (k := 0) hdg (Or.inl q1135) rfl in_X18 (by decide) (by decide) (Or.inl rfl) rfl S hE hG ht kk
    · exact c_getv (ci := 25) (k := 0) hdg (Or.inl q1135) rfl in_X19 (by decide) (by decide) (Or.inl rfl) rfl S hE hG ht kk
    · exact c_getv (ci := 26) (k := 0) hdg (Or.inl q1135) rfl in_X20 (by decide) (by decide) (Or.inl rfl) rfl S hE hG ht kk
    · exact c_getv (ci := 27) (k := 0) hdg (Or.inl q1135) rfl in_X21 (by decide) (by decide) (Or.inl rfl) rfl S hE hG ht kk
  · cases hv
theorem cg_X1_431 {a : Nat} {v : Int32} (hdg : decode cc pc = .ok (.getfield 431, 3)) (S : CallFix p m c cc nL s args lw_all RX1) (hE : gEnv E s) (hG : gC E G H) (hv : cGetI G [17] a 0 = some v) (kk : W p l e R s m args below meth c H locs cells slots Q (F0 m (pc + 3) ls (.int v :: rest))) : W p l e R s m args below meth c H locs cells slots Q (F0 m pc ls (.ref a :: rest)) := by
  unfold cGetI at hv
  split at hv
  · next ht =>
    cases hv
    have ht := List.mem_singleton.mp ht
    exact c_getv (ci := 16) (k := 0) hdg (Or.inr ⟨_, lw_nw q1104 rfl⟩) rfl in_X10 (by decide) (by decide) (Or.inl rfl) rfl S hE hG ht kk
  · cases hv
theorem cg_X1_443 {a : Nat} {v : Int32} (hdg : decode cc pc = .ok (.getfield 443, 3)) (S : CallFix p m c cc nL s args lw_all RX1) (hE : gEnv E s) (hG : gC E G H) (hv : cGetI G [17] a 7 = some v) (kk : W p l e R s m args below meth c H locs cells slots Q (F0 m (pc + 3) ls (.int v :: rest))) : W p l e R s m args below meth c H locs cells slots Q (F0 m pc ls (.ref a :: rest)) := by
  unfold cGetI at hv
  split at hv
  · next ht =>
    cases hv
    have ht := List.mem_singleton.mp ht
    exact c_getv (ci := 16) (k := 7) hdg (Or.inr ⟨_, lw_nw q1114 rfl⟩) rfl in_X10 (by decide) (by decide) (Or.inl rfl) rfl S hE hG ht kk
  · cases hv
theorem cp_X22_9i {a : Nat} {v : Int32} (hdg : decode cc pc = .ok (.putfield 9, 3)) (S : CallFix p m c cc nL s args lw_all RX22) (hE : gEnv E s) (hG : gC E G H) (hS : va_S (gx_C E) s.heap H locs) (hC0 : gC E Gz s.heap) (hnm : meth.name = "<init>") (hv : cPutI G [29] a 0 v = some G1) (kk : ∀ (H1 : Heap) (locs1 : List Loc), gC E G1 H1 → va_S (gx_C E) s.heap H1 locs1 → WC E p l e R s m args below meth c H1 locs1 Q (F0 m (pc + 3) ls rest)) : WC E p l e R s m args below meth c H locs Q (F0 m pc ls (.int v :: .ref a :: rest)) := by
  unfold cPutI at hv
  split at hv
  · next ht =>
    cases hv
    have ht := List.mem_singleton.mp ht
    exact c_putv (ci := 28) (k := 0) (v := .int v) (G' := cSetI G a 0 v) hdg (Or.inl q1479) rfl in_X22 tyX22_ok nmX22 (by decide) (Or.inl rfl) (by decide) (Or.inr ⟨hnm, rfl, q1479⟩) (tyX22_ok 0 (by decide)) rfl rfl S hE hG hS ht (by decide) rfl rfl rfl rfl rfl rfl c_othI (c_hvI (fun _ _ _ => rfl)) hC0.2.2.2.2.2 kk
  · cases hv
theorem cp_X22_15i {a : Nat} {v : Int32} (hdg : decode cc pc = .ok (.putfield 15, 3)) (S : CallFix p m c cc nL s args lw_all RX22) (hE : gEnv E s) (hG : gC E G H) (hS : va_S (gx_C E) s.heap H locs) (hC0 : gC E Gz s.heap) (hnm : meth.name = "<init>") (hv : cPutI G [29] a 1 v = some G1) (kk : ∀ (H1 : Heap) (locs1 : List Loc), gC E G1 H1 → va_S (gx_C E) s.heap H1 locs1 → WC E p l e R s m args below meth c H1 locs1 Q (F0 m (pc + 3) ls rest)) : WC E p l e R s m args below meth c H locs Q (F0 m pc ls (.int v :: .ref a :: rest)) := by
  unfold cPutI at hv
  split at hv
  · next ht =>
    cases hv
    have ht := List.mem_singleton.mp ht
    exact c_putv (ci := 28) (k := 1) (v := .int v) (G' := cSetI G a 1 v) hdg (Or.inl q1483) rfl in_X22 tyX22_ok nmX22 (by decide) (Or.inl rfl) (by decide) (Or.inr ⟨hnm, rfl, q1483⟩) (tyX22_ok 1 (by decide)) rfl rfl S hE hG hS ht (by decide) rfl rfl rfl rfl rfl rfl c_othI (c_hvI (fun _ _ _ => rfl)) hC0.2.2.2.2.2 kk
  · cases hv
theorem cg_X16_10 {a : Nat} {v : Nat} (hdg : decode cc pc = .ok (.getfield 10, 3)) (S : CallFix p m c cc nL s args lw_all RX16) (hE : gEnv E s) (hG : gC E G H) (hv : cGetR G [23] a 3 = some v) (kk : W p l e R s m args below meth c H locs cells slots Q (F0 m (pc + 3) ls (.ref v :: rest))) : W p l e R s m args below meth c H locs cells slots Q (F0 m pc ls (.ref a :: rest)) := by
  unfold cGetR at hv
  split at hv
  · next ht =>
    have ht := List.mem_singleton.mp ht
    exact c_getv (ci := 22) (k := 3) hdg (Or.inl q1284) rfl in_X16 (by decide) (by decide) (Or.inl rfl) (by show va_rf (cR G a 3) = _; rw [hv]; rfl) S hE hG ht kk
  · cases hv
theorem cp_X16_10i {a : Nat} {v : Option Nat} (hdg : decode cc pc = .ok (.putfield 10, 3)) (S : CallFix p m c cc nL s args lw_all RX16) (hE : gEnv E s) (hG : gC E G H) (hS : va_S (gx_C E) s.heap H locs) (hC0 : gC E Gz s.heap) (hnm : meth.name = "<init>") (hv : cPutR G [23] a 3 v = some G1) (kk : ∀ (H1 : Heap) (locs1 : List Loc), gC E G1 H1 → va_S (gx_C E) s.heap H1 locs1 → WC E p l e R s m args below meth c H1 locs1 Q (F0 m (pc + 3) ls rest)) : WC E p l e R s m args below meth c H locs Q (F0 m pc ls (va_rf v :: .ref a :: rest)) := by
  unfold cPutR at hv
  split at hv
  · next ht =>
    cases hv
    have ht := List.mem_singleton.mp ht
    exact c_putv (ci := 22) (k := 3) (v := va_rf v) (G' := cSetR G a 3 v) hdg (Or.inl q1284) rfl in_X16 tyX16_ok nmX16 (by decide) (Or.inl rfl) (by decide) (Or.inr ⟨hnm, rfl, q1284⟩) (tyX16_ok 3 (by decide)) (c_narR v (Or.inl ⟨_, rfl⟩)).1 (c_narR v (Or.inl ⟨_, rfl⟩)).2 S hE hG hS ht (by decide) rfl rfl rfl rfl rfl rfl c_othR (c_hvR (fun _ _ _ => rfl)) hC0.2.2.2.2.2 kk
  · cases hv
theorem cg_X10_9 {a : Nat} {v : Nat} (hdg : decode cc pc = .ok (.getfield 9, 3)) (S : CallFix p m c cc nL s args lw_all RX10) (hE : gEnv E s) (hG : gC E G H) (hv : cGetR G [17] a 1 = some v) (kk : W p l e R s m args below meth c H locs cells slots Q (F0 m (pc + 3) ls (.ref v :: rest))) : W p l e R s m args below meth c H locs cells slots Q (F0 m pc ls (.ref a :: rest)) := by
  unfold cGetR at hv
  split at hv
  · next ht =>
    have ht := List.mem_singleton.mp ht
    exact c_getv (ci := 16) (k := 1) hdg (Or.inl q1105) rfl in_X10 (by decide) (by decide) (Or.inl rfl) (by show va_rf (cR G a 1) = _; rw [hv]; rfl) S hE hG ht kk
  · cases hv
theorem cp_X10_9i {a : Nat} {v : Option Nat} (hdg : decode cc pc = .ok (.putfield 9, 3)) (S : CallFix p m c cc nL s args lw_all RX10) (hE : gEnv E s) (hG : gC E G H) (hS : va_S (gx_C E) s.heap H locs) (hC0 : gC E Gz s.heap) (hnm : meth.name = "<init>") (hv : cPutR G [17] a 1 v = some G1) (kk : ∀ (H1 : Heap) (locs1 : List Loc), gC E G1 H1 → va_S (gx_C E) s.heap H1 locs1 → WC E p l e R s m args below meth c H1 locs1 Q (F0 m (pc + 3) ls rest)) : WC E p l e R s m args below meth c H locs Q (F0 m pc ls (va_rf v :: .ref a :: rest)) := by
  unfold cPutR at hv
  split at hv
  · next ht =>
    cases hv
    have ht := List.mem_singleton.mp ht
    exact c_putv (ci := 16) (k := 1) (v := va_rf v) (G' := cSetR G a 1 v) hdg (Or.inl q1105) rfl in_X10 tyX10_ok nmX10 (by decide) (Or.inl rfl) (by decide) (Or.inr ⟨hnm, rfl, q1105⟩) (tyX10_ok 1 (by decide)) (c_narR v (Or.inr ⟨_, rfl⟩)).1 (c_narR v (Or.inr ⟨_, rfl⟩)).2 S hE hG hS ht (by decide) rfl rfl rfl rfl rfl rfl c_othR (c_hvR (fun _ _ _ => rfl)) hC0.2.2.2.2.2 kk
  · cases hv
theorem cg_X10_15 {a : Nat} {v : Nat} (hdg : decode cc pc = .ok (.getfield 15, 3)) (S : CallFix p m c cc nL s args lw_all RX10) (hE : gEnv E s) (hG : gC E G H) (hv : cGetR G [17] a 2 = some v) (kk : W p l e R s m args below meth c H locs cells slots Q (F0 m (pc + 3) ls (.ref v :: rest))) : W p l e R s m args below meth c H locs cells slots Q (F0 m pc ls (.ref a :: rest)) := by
  unfold cGetR at hv
  split at hv
  · next ht =>
    have ht := List.mem_singleton.mp ht
    exact c_getv (ci := 16) (k := 2) hdg (Or.inl q1106) rfl in_X10 (by decide) (by decide) (Or.inl rfl) (by show va_rf (cR G a 2) = _; rw [hv]; rfl) S hE hG ht kk
  · cases hv
theorem cp_X10_15i {a : Nat} {v : Option Nat} (hdg : decode cc pc = .ok (.putfield 15, 3)) (S : CallFix p m c cc nL s args lw_all RX10) (hE : gEnv E s) (hG : gC E G H) (hS : va_S (gx_C E) s.heap H locs) (hC0 : gC E Gz s.heap) (hnm : meth.name = "<init>") (hv : cPutR G [17] a 2 v = some G1) (kk : ∀ (H1 : Heap) (locs1 : List Loc), gC E G1 H1 → va_S (gx_C E) s.heap H1 locs1 → WC E p l e R s m args below meth c H1 locs1 Q (F0 m (pc + 3) ls rest)) : WC E p l e R s m args below meth c H locs Q (F0 m pc ls (va_rf v :: .ref a :: rest)) := by
  unfold cPutR at hv
  split at hv
  · next ht =>
    cases hv
    have ht := List.mem_singleton.mp ht
    exact c_putv (ci := 16) (k := 2) (v := va_rf v) (G' := cSetR G a 2 v) hdg (Or.inl q1106) rfl in_X10 tyX10_ok nmX10 (by decide) (Or.inl rfl) (by decide) (Or.inr ⟨hnm, rfl, q1106⟩) (tyX10_ok 2 (by decide)) (c_narR v (Or.inr ⟨_, rfl⟩)).1 (c_narR v (Or.inr ⟨_, rfl⟩)).2 S hE hG hS ht (by decide) rfl rfl rfl rfl rfl rfl c_othR (c_hvR (fun _ _ _ => rfl)) hC0.2.2.2.2.2 kk
  · cases hv
theorem cg_X10_18 {a : Nat} {v : Int32} (hdg : decode cc pc = .ok (.getfield 18, 3)) (S : CallFix p m c cc nL s args lw_all RX10) (hE : gEnv E s) (hG : gC E G H) (hv : cGetI G [17] a 0 = some v) (kk : W p l e R s m args below meth c H locs cells slots Q (F0 m (pc + 3) ls (.int v :: rest))) : W p l e R s m args below meth c H locs cells slots Q (F0 m pc ls (.ref a :: rest)) := by
  unfold cGetI at hv
  split at hv
  · next ht =>
    cases hv
    have ht := List.mem_singleton.mp ht
    exact c_getv (ci := 16) (k := 0) hdg (Or.inl q1103) rfl in_X10 (by decide) (by decide) (Or.inl rfl) rfl S hE hG ht kk
  · cases hv
theorem cp_X10_18i {a : Nat} {v : Int32} (hdg : decode cc pc = .ok (.putfield 18, 3)) (S : CallFix p m c cc nL s args lw_all RX10) (hE : gEnv E s) (hG : gC E G H) (hS : va_S (gx_C E) s.heap H locs) (hC0 : gC E Gz s.heap) (hnm : meth.name = "<init>") (hv : cPutI G [17] a 0 v = some G1) (kk : ∀ (H1 : Heap) (locs1 : List Loc), gC E G1 H1 → va_S (gx_C E) s.heap H1 locs1 → WC E p l e R s m args below meth c H1 locs1 Q (F0 m (pc + 3) ls rest)) : WC E p l e R s m args below meth c H locs Q (F0 m pc ls (.int v :: .ref a :: rest)) := by
  unfold cPutI at hv
  split at hv
  · next ht =>
    cases hv
    have ht := List.mem_singleton.mp ht
    exact c_putv (ci := 16) (k := 0) (v := .int v) (G' := cSetI G a 0 v) hdg (Or.inl q1103) rfl in_X10 tyX10_ok nmX10 (by decide) (Or.inl rfl) (by decide) (Or.inr ⟨hnm, rfl, q1103⟩) (tyX10_ok 0 (by decide)) rfl rfl S hE hG hS ht (by decide) rfl rfl rfl rfl rfl rfl c_othI (c_hvI (fun _ _ _ => rfl)) hC0.2.2.2.2.2 kk
  · cases hv
theorem cg_X10_22 {a : Nat} {v : Int32} (hdg : decode cc pc = .ok (.getfield 22, 3)) (S : CallFix p m c cc nL s args lw_all RX10) (hE : gEnv E s) (hG : gC E G H) (hv : cGetI G [17] a 3 = some v) (kk : W p l e R s m args below meth c H locs cells slots Q (F0 m (pc + 3) ls (.int v :: rest))) : W p l e R s m args below meth c H locs cells slots Q (F0 m pc ls (.ref a :: rest)) := by
  unfold cGetI at hv
  split at hv
  · next ht =>
    cases hv
    have ht := List.mem_singleton.mp ht
    exact c_getv (ci := 16) (k := 3) hdg (Or.inl q1107) rfl in_X10 (by decide) (by decide) (Or.inl rfl) rfl S hE hG ht kk
  · cases hv
theorem cp_X10_22 {a : Nat} {v : Int32} (hdg : decode cc pc = .ok (.putfield 22, 3)) (S : CallFix p m c cc nL s args lw_all RX10) (hE : gEnv E s) (hG : gC E G H) (hS : va_S (gx_C E) s.heap H locs) (hC0 : gC E Gz s.heap) (hv : cPutI G [17] a 3 v = some G1) (kk : ∀ (H1 : Heap) (locs1 : List Loc), gC E G1 H1 → va_S (gx_C E) s.heap H1 locs1 → WC E p l e R s m args below meth c H1 locs1 Q (F0 m (pc + 3) ls rest)) : WC E p l e R s m args below meth c H locs Q (F0 m pc ls (.int v :: .ref a :: rest)) := by
  unfold cPutI at hv
  split at hv
  · next ht =>
    cases hv
    have ht := List.mem_singleton.mp ht
    exact c_putv (ci := 16) (k := 3) (v := .int v) (G' := cSetI G a 3 v) hdg (Or.inl q1107) rfl in_X10 tyX10_ok nmX10 (by decide) (Or.inl rfl) (by decide) (Or.inl rfl) (tyX10_ok 3 (by decide)) rfl rfl S hE hG hS ht (by decide) rfl rfl rfl rfl rfl rfl c_othI (c_hvI (fun _ _ _ => rfl)) hC0.2.2.2.2.2 kk
  · cases hv
theorem cg_X10_25 {a : Nat} {v : Int32} (hdg : decode cc pc = .ok (.getfield 25, 3)) (S : CallFix p m c cc nL s args lw_all RX10) (hE : gEnv E s) (hG : gC E G H) (hv : cGetI G [17] a 4 = some v) (kk : W p l e R s m args below meth c H locs cells slots Q (F0 m (pc + 3) ls (.int v :: rest))) : W p l e R s m args below meth c H locs cells slots Q (F0 m pc ls (.ref a :: rest)) := by
  unfold cGetI at hv
  split at hv
  · next ht =>
    cases hv
    have ht := List.mem_singleton.mp ht
    exact c_getv (ci := 16) (k := 4) hdg (Or.inl q1109) rfl in_X10 (by decide) (by decide) (Or.inl rfl) rfl S hE hG ht kk
  · cases hv
theorem cp_X10_25 {a : Nat} {v : Int32} (hdg : decode cc pc = .ok (.putfield 25, 3)) (S : CallFix p m c cc nL s args lw_all RX10) (hE : gEnv E s) (hG : gC E G H) (hS : va_S (gx_C E) s.heap H locs) (hC0 : gC E Gz s.heap) (hv : cPutI G [17] a 4 v = some G1) (kk : ∀ (H1 : Heap) (locs1 : List Loc), gC E G1 H1 → va_S (gx_C E) s.heap H1 locs1 → WC E p l e R s m args below meth c H1 locs1 Q (F0 m (pc + 3) ls rest)) : WC E p l e R s m args below meth c H locs Q (F0 m pc ls (.int v :: .ref a :: rest)) := by
  unfold cPutI at hv
  split at hv
  · next ht =>
    cases hv
    have ht := List.mem_singleton.mp ht
    exact c_putv (ci := 16) (k := 4) (v := .int v) (G' := cSetI G a 4 v) hdg (Or.inl q1109) rfl in_X10 tyX10_ok nmX10 (by decide) (Or.inl rfl) (by decide) (Or.inl rfl) (tyX10_ok 4 (by decide)) rfl rfl S hE hG hS ht (by decide) rfl rfl rfl rfl rfl rfl c_othI (c_hvI (fun _ _ _ => rfl)) hC0.2.2.2.2.2 kk
  · cases hv
theorem cg_X10_28 {a : Nat} {v : Int32} (hdg : decode cc pc = .ok (.getfield 28, 3)) (S : CallFix p m c cc nL s args lw_all RX10) (hE : gEnv E s) (hG : gC E G H) (hv : cGetI G [17] a 5 = some v) (kk : W p l e R s m args below meth c H locs cells slots Q (F0 m (pc + 3) ls (.int v :: rest))) : W p l e R s m args below meth c H locs cells slots Q (F0 m pc ls (.ref a :: rest)) := by
  unfold cGetI at hv
  split at hv
  · next ht =>
    cases hv
    have ht := List.mem_singleton.mp ht
    exact c_getv (ci := 16) (k := 5) hdg (Or.inl q1110) rfl in_X10 (by decide) (by decide) (Or.inl rfl) rfl S hE hG ht kk
  · cases hv
theorem cp_X10_28 {a : Nat} {v : Int32} (hdg : decode cc pc = .ok (.putfield 28, 3)) (S : CallFix p m c cc nL s args lw_all RX10) (hE : gEnv E s) (hG : gC E G H) (hS : va_S (gx_C E) s.heap H locs) (hC0 : gC E Gz s.heap) (hv : cPutI G [17] a 5 v = some G1) (kk : ∀ (H1 : Heap) (locs1 : List Loc), gC E G1 H1 → va_S (gx_C E) s.heap H1 locs1 → WC E p l e R s m args below meth c H1 locs1 Q (F0 m (pc + 3) ls rest)) : WC E p l e R s m args below meth c H locs Q (F0 m pc ls (.int v :: .ref a :: rest)) := by
  unfold cPutI at hv
  split at hv
  · next ht =>
    cases hv
    have ht := List.mem_singleton.mp ht
    exact c_putv (ci := 16) (k := 5) (v := .int v) (G' := cSetI G a 5 v) hdg (Or.inl q1110) rfl in_X10 tyX10_ok nmX10 (by decide) (Or.inl rfl) (by decide) (Or.inl rfl) (tyX10_ok 5 (by decide)) rfl rfl S hE hG hS ht (by decide) rfl rfl rfl rfl rfl rfl c_othI (c_hvI (fun _ _ _ => rfl)) hC0.2.2.2.2.2 kk
  · cases hv
theorem cg_X10_31 {a : Nat} {v : Int32} (hdg : decode cc pc = .ok (.getfield 31, 3)) (S : CallFix p m c cc nL s args lw_all RX10) (hE : gEnv E s) (hG : gC E G H) (hv : cGetI G [17] a 6 = some v) (kk : W p l e R s m args below meth c H locs cells slots Q (F0 m (pc + 3) ls (.int v :: rest))) : W p l e R s m args below meth c H locs cells slots Q (F0 m pc ls (.ref a :: rest)) := by
  unfold cGetI at hv
  split at hv
  · next ht =>
    cases hv
    have ht := List.mem_singleton.mp ht
    exact c_getv (ci := 16) (k := 6) hdg (Or.inl q1111) rfl in_X10 (by decide) (by decide) (Or.inl rfl) rfl S hE hG ht kk
  · cases hv
theorem cp_X10_31 {a : Nat} {v : Int32} (hdg : decode cc pc = .ok (.putfield 31, 3)) (S : CallFix p m c cc nL s args lw_all RX10) (hE : gEnv E s) (hG : gC E G H) (hS : va_S (gx_C E) s.heap H locs) (hC0 : gC E Gz s.heap) (hv : cPutI G [17] a 6 v = some G1) (kk : ∀ (H1 : Heap) (locs1 : List Loc), gC E G1 H1 → va_S (gx_C E) s.heap H1 locs1 → WC E p l e R s m args below meth c H1 locs1 Q (F0 m (pc + 3) ls rest)) : WC E p l e R s m args below meth c H locs Q (F0 m pc ls (.int v :: .ref a :: rest)) := by
  unfold cPutI at hv
  split at hv
  · next ht =>
    cases hv
    have ht := List.mem_singleton.mp ht
    exact c_putv (ci := 16) (k := 6) (v := .int v) (G' := cSetI G a 6 v) hdg (Or.inl q1111) rfl in_X10 tyX10_ok nmX10 (by decide) (Or.inl rfl) (by decide) (Or.inl rfl) (tyX10_ok 6 (by decide)) rfl rfl S hE hG hS ht (by decide) rfl rfl rfl rfl rfl rfl c_othI (c_hvI (fun _ _ _ => rfl)) hC0.2.2.2.2.2 kk
  · cases hv
theorem cg_X10_34 {a : Nat} {v : Int32} (hdg : decode cc pc = .ok (.getfield 34, 3)) (S : CallFix p m c cc nL s args lw_all RX10) (hE : gEnv E s) (hG : gC E G H) (hv : cGetI G [17] a 7 = some v) (kk : W p l e R s m args below meth c H locs cells slots Q (F0 m (pc + 3) ls (.int v :: rest))) : W p l e R s m args below meth c H locs cells slots Q (F0 m pc ls (.ref a :: rest)) := by
  unfold cGetI at hv
  split at hv
  · next ht =>
    cases hv
    have ht := List.mem_singleton.mp ht
    exact c_getv (ci := 16) (k := 7) hdg (Or.inl q1113) rfl in_X10 (by decide) (by decide) (Or.inl rfl) rfl S hE hG ht kk
  · cases hv
theorem cp_X10_34 {a : Nat} {v : Int32} (hdg : decode cc pc = .ok (.putfield 34, 3)) (S : CallFix p m c cc nL s args lw_all RX10) (hE : gEnv E s) (hG : gC E G H) (hS : va_S (gx_C E) s.heap H locs) (hC0 : gC E Gz s.heap) (hv : cPutI G [17] a 7 v = some G1) (kk : ∀ (H1 : Heap) (locs1 : List Loc), gC E G1 H1 → va_S (gx_C E) s.heap H1 locs1 → WC E p l e R s m args below meth c H1 locs1 Q (F0 m (pc + 3) ls rest)) : WC E p l e R s m args below meth c H locs Q (F0 m pc ls (.int v :: .ref a :: rest)) := by
  unfold cPutI at hv
  split at hv
  · next ht =>
    cases hv
    have ht := List.mem_singleton.mp ht
    exact c_putv (ci := 16) (k := 7) (v := .int v) (G' := cSetI G a 7 v) hdg (Or.inl q1113) rfl in_X10 tyX10_ok nmX10 (by decide) (Or.inl rfl) (by decide) (Or.inl rfl) (tyX10_ok 7 (by decide)) rfl rfl S hE hG hS ht (by decide) rfl rfl rfl rfl rfl rfl c_othI (c_hvI (fun _ _ _ => rfl)) hC0.2.2.2.2.2 kk
  · cases hv
theorem cg_X29_14 {a : Nat} {v : Nat} (hdg : decode cc pc = .ok (.getfield 14, 3)) (S : CallFix p m c cc nL s args lw_all RX29) (hE : gEnv E s) (hG : gC E G H) (hv : cGetR G [35] a 1 = some v) (kk : W p l e R s m args below meth c H locs cells slots Q (F0 m (pc + 3) ls (.ref v :: rest))) : W p l e R s m args below meth c H locs cells slots Q (F0 m pc ls (.ref a :: rest)) := by
  unfold cGetR at hv
  split at hv
  · next ht =>
    have ht := List.mem_singleton.mp ht
    exact c_getv (ci := 34) (k := 1) hdg (Or.inl q1612) rfl in_X29 (by decide) (by decide) (Or.inl rfl) (by show va_rf (cR G a 1) = _; rw [hv]; rfl) S hE hG ht kk
  · cases hv
theorem cp_X29_14i {a : Nat} {v : Option Nat} (hdg : decode cc pc = .ok (.putfield 14, 3)) (S : CallFix p m c cc nL s args lw_all RX29) (hE : gEnv E s) (hG : gC E G H) (hS : va_S (gx_C E) s.heap H locs) (hC0 : gC E Gz s.heap) (hnm : meth.name = "<init>") (hv : cPutR G [35] a 1 v = some G1) (kk : ∀ (H1 : Heap) (locs1 : List Loc), gC E G1 H1 → va_S (gx_C E) s.heap H1 locs1 → WC E p l e R s m args below meth c H1 locs1 Q (F0 m (pc + 3) ls rest)) : WC E p l e R s m args below meth c H locs Q (F0 m pc ls (va_rf v :: .ref a :: rest)) := by
  unfold cPutR at hv
  split at hv
  · next ht =>
    cases hv
    have ht := List.mem_singleton.mp ht
    exact c_putv (ci := 34) (k := 1) (v := va_rf v) (G' := cSetR G a 1 v) hdg (Or.inl q1612) rfl in_X29 tyX29_ok nmX29 (by decide) (Or.inl rfl) (by decide) (Or.inr ⟨hnm, rfl, q1612⟩) (tyX29_ok 1 (by decide)) (c_narR v (Or.inl ⟨_, rfl⟩)).1 (c_narR v (Or.inl ⟨_, rfl⟩)).2 S hE hG hS ht (by decide) rfl rfl rfl rfl rfl rfl c_othR (c_hvR (fun _ _ _ => rfl)) hC0.2.2.2.2.2 kk
  · cases hv
theorem cg_X29_20 {a : Nat} {v : Nat} (hdg : decode cc pc = .ok (.getfield 20, 3)) (S : CallFix p m c cc nL s args lw_all RX29) (hE : gEnv E s) (hG : gC E G H) (hv : cGetR G [35] a 2 = some v) (kk : W p l e R s m args below meth c H locs cells slots Q (F0 m (pc + 3) ls (.ref v :: rest))) : W p l e R s m args below meth c H locs cells slots Q (F0 m pc ls (.ref a :: rest)) := by
  unfold cGetR at hv
  split at hv
  · next ht =>
    have ht := List.mem_singleton.mp ht
    exact c_getv (ci := 34) (k := 2) hdg (Or.inl q1613) rfl in_X29 (by decide) (by decide) (Or.inl rfl) (by show va_rf (cR G a 2) = _; rw [hv]; rfl) S hE hG ht kk
  · cases hv
theorem cp_X29_20 {a : Nat} {v : Option Nat} (hdg : decode cc pc = .ok (.putfield 20, 3)) (S : CallFix p m c cc nL s args lw_all RX29) (hE : gEnv E s) (hG : gC E G H) (hS : va_S (gx_C E) s.heap H locs) (hC0 : gC E Gz s.heap) (hv : cPutR G [35] a 2 v = some G1) (kk : ∀ (H1 : Heap) (locs1 : List Loc), gC E G1 H1 → va_S (gx_C E) s.heap H1 locs1 → WC E p l e R s m args below meth c H1 locs1 Q (F0 m (pc + 3) ls rest)) : WC E p l e R s m args below meth c H locs Q (F0 m pc ls (va_rf v :: .ref a :: rest)) := by
  unfold cPutR at hv
  split at hv
  · next ht =>
    cases hv
    have ht := List.mem_singleton.mp ht
    exact c_putv (ci := 34) (k := 2) (v := va_rf v) (G' := cSetR G a 2 v) hdg (Or.inl q1613) rfl in_X29 tyX29_ok nmX29 (by decide) (Or.inl rfl) (by decide) (Or.inl rfl) (tyX29_ok 2 (by decide)) (c_narR v (Or.inr ⟨_, rfl⟩)).1 (c_narR v (Or.inr ⟨_, rfl⟩)).2 S hE hG hS ht (by decide) rfl rfl rfl rfl rfl rfl c_othR (c_hvR (fun _ _ _ => rfl)) hC0.2.2.2.2.2 kk
  · cases hv
theorem cp_X29_20i {a : Nat} {v : Option Nat} (hdg : decode cc pc = .ok (.putfield 20, 3)) (S : CallFix p m c cc nL s args lw_all RX29) (hE : gEnv E s) (hG : gC E G H) (hS : va_S (gx_C E) s.heap H locs) (hC0 : gC E Gz s.heap) (hnm : meth.name = "<init>") (hv : cPutR G [35] a 2 v = some G1) (kk : ∀ (H1 : Heap) (locs1 : List Loc), gC E G1 H1 → va_S (gx_C E) s.heap H1 locs1 → WC E p l e R s m args below meth c H1 locs1 Q (F0 m (pc + 3) ls rest)) : WC E p l e R s m args below meth c H locs Q (F0 m pc ls (va_rf v :: .ref a :: rest)) := by
  unfold cPutR at hv
  split at hv
  · next ht =>
    cases hv
    have ht := List.mem_singleton.mp ht
    exact c_putv (ci := 34) (k := 2) (v := va_rf v) (G' := cSetR G a 2 v) hdg (Or.inl q1613) rfl in_X29 tyX29_ok nmX29 (by decide) (Or.inl rfl) (by decide) (Or.inr ⟨hnm, rfl, q1613⟩) (tyX29_ok 2 (by decide)) (c_narR v (Or.inr ⟨_, rfl⟩)).1 (c_narR v (Or.inr ⟨_, rfl⟩)).2 S hE hG hS ht (by decide) rfl rfl rfl rfl rfl rfl c_othR (c_hvR (fun _ _ _ => rfl)) hC0.2.2.2.2.2 kk
  · cases hv
theorem cg_X29_24 {a : Nat} {v : Nat} (hdg : decode cc pc = .ok (.getfield 24, 3)) (S : CallFix p m c cc nL s args lw_all RX29) (hE : gEnv E s) (hG : gC E G H) (hv : cGetR G [35] a 0 = some v) (kk : W p l e R s m args below meth c H locs cells slots Q (F0 m (pc + 3) ls (.ref v :: rest))) : W p l e R s m args below meth c H locs cells slots Q (F0 m pc ls (.ref a :: rest)) := by
  unfold cGetR at hv
  split at hv
  · next ht =>
    have ht := List.mem_singleton.mp ht
    exact c_getv (ci := 34) (k := 0) hdg (Or.inl q1611) rfl in_X29 (by decide) (by decide) (Or.inl rfl) (by show va_rf (cR G a 0) = _; rw [hv]; rfl) S hE hG ht kk
  · cases hv
theorem cp_X29_24i {a : Nat} {v : Option Nat} (hdg : decode cc pc = .ok (.putfield 24, 3)) (S : CallFix p m c cc nL s args lw_all RX29) (hE : gEnv E s) (hG : gC E G H) (hS : va_S (gx_C E) s.heap H locs) (hC0 : gC E Gz s.heap) (hnm : meth.name = "<init>") (hv : cPutR G [35] a 0 v = some G1) (kk : ∀ (H1 : Heap) (locs1 : List Loc), gC E G1 H1 → va_S (gx_C E) s.heap H1 locs1 → WC E p l e R s m args below meth c H1 locs1 Q (F0 m (pc + 3) ls rest)) : WC E p l e R s m args below meth c H locs Q (F0 m pc ls (va_rf v :: .ref a :: rest)) := by
  unfold cPutR at hv
  split at hv
  · next ht =>
    cases hv
    have ht := List.mem_singleton.mp ht
    exact c_putv (ci := 34) (k := 0) (v := va_rf v) (G' := cSetR G a 0 v) hdg (Or.inl q1611) rfl in_X29 tyX29_ok nmX29 (by decide) (Or.inl rfl) (by decide) (Or.inr ⟨hnm, rfl, q1611⟩) (tyX29_ok 0 (by decide)) (c_narR v (Or.inl ⟨_, rfl⟩)).1 (c_narR v (Or.inl ⟨_, rfl⟩)).2 S hE hG hS ht (by decide) rfl rfl rfl rfl rfl rfl c_othR (c_hvR (fun _ _ _ => rfl)) hC0.2.2.2.2.2 kk
  · cases hv
theorem cg_X29_46 {a : Nat} {v : Int32} (hdg : decode cc pc = .ok (.getfield 46, 3)) (S : CallFix p m c cc nL s args lw_all RX29) (hE : gEnv E s) (hG : gC E G H) (hv : cGetI G [9] a 7 = some v) (kk : W p l e R s m args below meth c H locs cells slots Q (F0 m (pc + 3) ls (.int v :: rest))) : W p l e R s m args below meth c H locs cells slots Q (F0 m pc ls (.ref a :: rest)) := by
  unfold cGetI at hv
  split at hv
  · next ht =>
    cases hv
    have ht := List.mem_singleton.mp ht
    exact c_getv (ci := 8) (k := 7) hdg (Or.inr ⟨_, lw_nw q198 rfl⟩) rfl in_X1 (by decide) (by decide) (Or.inl rfl) rfl S hE hG ht kk
  · cases hv
theorem cp_X29_46 {a : Nat} {v : Int32} (hdg : decode cc pc = .ok (.putfield 46, 3)) (S : CallFix p m c cc nL s args lw_all RX29) (hE : gEnv E s) (hG : gC E G H) (hS : va_S (gx_C E) s.heap H locs) (hC0 : gC E Gz s.heap) (hv : cPutI G [9] a 7 v = some G1) (kk : ∀ (H1 : Heap) (locs1 : List Loc), gC E G1 H1 → va_S (gx_C E) s.heap H1 locs1 → WC E p l e R s m args below meth c H1 locs1 Q (F0 m (pc + 3) ls rest)) : WC E p l e R s m args below meth c H locs Q (F0 m pc ls (.int v :: .ref a :: rest)) := by
  unfold cPutI at hv
  split at hv
  · next ht =>
    cases hv
    have ht := List.mem_singleton.mp ht
    exact c_putv (ci := 8) (k := 7) (v := .int v) (G' := cSetI G a 7 v) hdg (Or.inr ⟨_, lw_nw q198 rfl⟩) rfl in_X1 tyX1_ok nmX1 (by decide) (Or.inl rfl) (by decide) (Or.inl rfl) (tyX1_ok 7 (by decide)) rfl rfl S hE hG hS ht (by decide) rfl rfl rfl rfl rfl rfl c_othI (c_hvI (fun _ _ _ => rfl)) hC0.2.2.2.2.2 kk
  · cases hv
theorem cg_X18_12 {a : Nat} {v : Nat} (hdg : decode cc pc = .ok (.getfield 12, 3)) (S : CallFix p m c cc nL s args lw_all RX18) (hE : gEnv E s) (hG : gC E G H) (hv : cGetR G [25] a 5 = some v) (kk : W p l e R s m args below meth c H locs cells slots Q (F0 m (pc + 3) ls (.ref v :: rest))) : W p l e R s m args below meth c H locs cells slots Q (F0 m pc ls (.ref a :: rest)) := by
  unfold cGetR at hv
  split at hv
  · next ht =>
    have ht := List.mem_singleton.mp ht
    exact c_getv (ci := 24) (k := 5) hdg (Or.inl q1305) rfl in_X18 (by decide) (by decide) (Or.inl rfl) (by show va_rf (cR G a 5) = _; rw [hv]; rfl) S hE hG ht kk
  · cases hv
theorem cp_X18_12i {a : Nat} {v : Option Nat} (hdg : decode cc pc = .ok (.putfield 12, 3)) (S : CallFix p m c cc nL s args lw_all RX18) (hE : gEnv E s) (hG : gC E G H) (hS : va_S (gx_C E) s.heap H locs) (hC0 : gC E Gz s.heap) (hnm : meth.name = "<init>") (hv : cPutR G [25] a 5 v = some G1) (kk : ∀ (H1 : Heap) (locs1 : List Loc), gC E G1 H1 → va_S (gx_C E) s.heap H1 locs1 → WC E p l e R s m args below meth c H1 locs1 Q (F0 m (pc + 3) ls rest)) : WC E p l e R s m args below meth c H locs Q (F0 m pc ls (va_rf v :: .ref a :: rest)) := by
  unfold cPutR at hv
  split at hv
  · next ht =>
    cases hv
    have ht := List.mem_singleton.mp ht
    exact c_putv (ci := 24) (k := 5) (v := va_rf v) (G' := cSetR G a 5 v) hdg (Or.inl q1305) rfl in_X18 tyX18_ok nmX18 (by decide) (Or.inl rfl) (by decide) (Or.inr ⟨hnm, rfl, q1305⟩) (tyX18_ok 5 (by decide)) (c_narR v (Or.inl ⟨_, rfl⟩)).1 (c_narR v (Or.inl ⟨_, rfl⟩)).2 S hE hG hS ht (by decide) rfl rfl rfl rfl rfl rfl c_othR (c_hvR (fun _ _ _ => rfl)) hC0.2.2.2.2.2 kk
  · cases hv
theorem cg_X18_23 {a : Nat} {v : Nat} (hdg : decode cc pc = .ok (.getfield 23, 3)) (S : CallFix p m c cc nL s args lw_all RX18) (hE : gEnv E s) (hG : gC E G H) (hv : cGetR G [25] a 3 = some v) (kk : W p l e R s m args below meth c H locs cells slots Q (F0 m (pc + 3) ls (.ref v :: rest))) : W p l e R s m args below meth c H locs cells slots Q (F0 m pc ls (.ref a :: rest)) := by
  unfold cGetR at hv
  split at hv
  · next ht =>
    have ht := List.mem_singleton.mp ht
    exact c_getv (ci := 24) (k := 3) hdg (Or.inl q1303) rfl in_X18 (by decide) (by decide) (Or.inl rfl) (by show va_rf (cR G a 3) = _; rw [hv]; rfl) S hE hG ht kk
  · cases hv
theorem cp_X18_23i {a : Nat} {v : Option Nat} (hdg : decode cc pc = .ok (.putfield 23, 3)) (S : CallFix p m c cc nL s args lw_all RX18) (hE : gEnv E s) (hG : gC E G H) (hS : va_S (gx_C E) s.heap H locs) (hC0 : gC E Gz s.heap) (hnm : meth.name = "<init>") (hv : cPutR G [25] a 3 v = some G1) (kk : ∀ (H1 : Heap) (locs1 : List Loc), gC E G1 H1 → va_S (gx_C E) s.heap H1 locs1 → WC E p l e R s m args below meth c H1 locs1 Q (F0 m (pc + 3) ls rest)) : WC E p l e R s m args below meth c H locs Q (F0 m pc ls (va_rf v :: .ref a :: rest)) := by
  unfold cPutR at hv
  split at hv
  · next ht =>
    cases hv
    have ht := List.mem_singleton.mp ht
    exact c_putv (ci := 24) (k := 3) (v := va_rf v) (G' := cSetR G a 3 v) hdg (Or.inl q1303) rfl in_X18 tyX18_ok nmX18 (by decide) (Or.inl rfl) (by decide) (Or.inr ⟨hnm, rfl, q1303⟩) (tyX18_ok 3 (by decide)) (c_narR v (Or.inl ⟨_, rfl⟩)).1 (c_narR v (Or.inl ⟨_, rfl⟩)).2 S hE hG hS ht (by decide) rfl rfl rfl rfl rfl rfl c_othR (c_hvR (fun _ _ _ => rfl)) hC0.2.2.2.2.2 kk
  · cases hv
theorem cg_X18_30 {a : Nat} {v : Nat} (hdg : decode cc pc = .ok (.getfield 30, 3)) (S : CallFix p m c cc nL s args lw_all RX18) (hE : gEnv E s) (hG : gC E G H) (hv : cGetR G [25] a 4 = some v) (kk : W p l e R s m args below meth c H locs cells slots Q (F0 m (pc + 3) ls (.ref v :: rest))) : W p l e R s m args below meth c H locs cells slots Q (F0 m pc ls (.ref a :: rest)) := by
  unfold cGetR at hv
  split at hv
  · next ht =>
    have ht := List.mem_singleton.mp ht
    exact c_getv (ci := 24) (k := 4) hdg (Or.inl q1304) rfl in_X18 (by decide) (by decide) (Or.inl rfl) (by show va_rf (cR G a 4) = _; rw [hv]; rfl) S hE hG ht kk
  · cases hv
theorem cp_X18_30i {a : Nat} {v : Option Nat} (hdg : decode cc pc = .ok (.putfield 30, 3)) (S : CallFix p m c cc nL s args lw_all RX18) (hE : gEnv E s) (hG : gC E G H) (hS : va_S (gx_C E) s.heap H locs) (hC0 : gC E Gz s.heap) (hnm : meth.name = "<init>") (hv : cPutR G [25] a 4 v = some G1) (kk : ∀ (H1 : Heap) (locs1 : List Loc), gC E G1 H1 → va_S (gx_C E) s.heap H1 locs1 → WC E p l e R s m args below meth c H1 locs1 Q (F0 m (pc + 3) ls rest)) : WC E p l e R s m args below meth c H locs Q (F0 m pc ls (va_rf v :: .ref a :: rest)) := by
  unfold cPutR at hv
  split at hv
  · next ht =>
    cases hv
    have ht := List.mem_singleton.mp ht
    exact c_putv (ci := 24) (k := 4) (v := va_rf v) (G' := cSetR G a 4 v) hdg (Or.inl q1304) rfl in_X18 tyX18_ok nmX18 (by decide) (Or.inl rfl) (by decide) (Or.inr ⟨hnm, rfl, q1304⟩) (tyX18_ok 4 (by decide)) (c_narR v (Or.inl ⟨_, rfl⟩)).1 (c_narR v (Or.inl ⟨_, rfl⟩)).2 S hE hG hS ht (by decide) rfl rfl rfl rfl rfl rfl c_othR (c_hvR (fun _ _ _ => rfl)) hC0.2.2.2.2.2 kk
  · cases hv
theorem cg_X18_53 {a : Nat} {v : Int32} (hdg : decode cc pc = .ok (.getfield 53, 3)) (S : CallFix p m c cc nL s args lw_all RX18) (hE : gEnv E s) (hG : gC E G H) (hv : cGetI G [22] a 0 = some v) (kk : W p l e R s m args below meth c H locs cells slots Q (F0 m (pc + 3) ls (.int v :: rest))) : W p l e R s m args below meth c H locs cells slots Q (F0 m pc ls (.ref a :: rest)) := by
  unfold cGetI at hv
  split at hv
  · next ht =>
    cases hv
    have ht := List.mem_singleton.mp ht
    exact c_getv (ci := 21) (k := 0) hdg (Or.inr ⟨_, lw_nw q1243 rfl⟩) rfl in_X15 (by decide) (by decide) (Or.inl rfl) rfl S hE hG ht kk
  · cases hv
theorem cg_X18_70 {a : Nat} {v : Int32} (hdg : decode cc pc = .ok (.getfield 70, 3)) (S : CallFix p m c cc nL s args lw_all RX18) (hE : gEnv E s) (hG : gC E G H) (hv : cGetI G [19] a 1 = some v) (kk : W p l e R s m args below meth c H locs cells slots Q (F0 m (pc + 3) ls (.int v :: rest))) : W p l e R s m args below meth c H locs cells slots Q (F0 m pc ls (.ref a :: rest)) := by
  unfold cGetI at hv
  split at hv
  · next ht =>
    cases hv
    have ht := List.mem_singleton.mp ht
    exact c_getv (ci := 18) (k := 1) hdg (Or.inr ⟨_, lw_nw q1169 rfl⟩) rfl in_X12 (by decide) (by decide) (Or.inl rfl) rfl S hE hG ht kk
  · cases hv
theorem cg_X32_9 {a : Nat} {v : Int32} (hdg : decode cc pc = .ok (.getfield 9, 3)) (S : CallFix p m c cc nL s args lw_all RX32) (hE : gEnv E s) (hG : gC E G H) (hv : cGetI G [37] a 0 = some v) (kk : W p l e R s m args below meth c H locs cells slots Q (F0 m (pc + 3) ls (.int v :: rest))) : W p l e R s m args below meth c H locs cells slots Q (F0 m pc ls (.ref a :: rest)) := by
  unfold cGetI at hv
  split at hv
  · next ht =>
    cases hv
    have ht := List.mem_singleton.mp ht
    exact c_getv (ci := 36) (k := 0) hdg (Or.inl q1668) rfl in_X32 (by decide) (by decide) (Or.inl rfl) rfl S hE hG ht kk
  · cases hv
theorem cp_X32_9i {a : Nat} {v : Int32} (hdg : decode cc pc = .ok (.putfield 9, 3)) (S : CallFix p m c cc nL s args lw_all RX32) (hE : gEnv E s) (hG : gC E G H) (hS : va_S (gx_C E) s.heap H locs) (hC0 : gC E Gz s.heap) (hnm : meth.name = "<init>") (hv : cPutI G [37] a 0 v = some G1) (kk : ∀ (H1 : Heap) (locs1 : List Loc), gC E G1 H1 → va_S (gx_C E) s.heap H1 locs1 → WC E p l e R s m args below meth c H1 locs1 Q (F0 m (pc + 3) ls rest)) : WC E p l e R s m args below meth c H locs Q (F0 m pc ls (.int v :: .ref a :: rest)) := by
  unfold cPutI at hv
  split at hv
  · next ht =>
    cases hv
    have ht := List.mem_singleton.mp ht
    exact c_putv (ci := 36) (k := 0) (v := .int v) (G' := cSetI G a 0 v) hdg (Or.inl q1668) rfl in_X32 tyX32_ok nmX32 (by decide) (Or.inl rfl) (by decide) (Or.inr ⟨hnm, rfl, q1668⟩) (tyX32_ok 0 (by decide)) rfl rfl S hE hG hS ht (by decide) rfl rfl rfl rfl rfl rfl c_othI (c_hvI (fun _ _ _ => rfl)) hC0.2.2.2.2.2 kk
  · cases hv
theorem cg_X32_15 {a : Nat} {v : Nat} (hdg : decode cc pc = .ok (.getfield 15, 3)) (S : CallFix p m c cc nL s args lw_all RX32) (hE : gEnv E s) (hG : gC E G H) (hv : cGetR G [37] a 1 = some v) (kk : W p l e R s m args below meth c H locs cells slots Q (F0 m (pc + 3) ls (.ref v :: rest))) : W p l e R s m args below meth c H locs cells slots Q (F0 m pc ls (.ref a :: rest)) := by
  unfold cGetR at hv
  split at hv
  · next ht =>
    have ht := List.mem_singleton.mp ht
    exact c_getv (ci := 36) (k := 1) hdg (Or.inl q1669) rfl in_X32 (by decide) (by decide) (Or.inl rfl) (by show va_rf (cR G a 1) = _; rw [hv]; rfl) S hE hG ht kk
  · cases hv
theorem cp_X32_15i {a : Nat} {v : Option Nat} (hdg : decode cc pc = .ok (.putfield 15, 3)) (S : CallFix p m c cc nL s args lw_all RX32) (hE : gEnv E s) (hG : gC E G H) (hS : va_S (gx_C E) s.heap H locs) (hC0 : gC E Gz s.heap) (hnm : meth.name = "<init>") (hv : cPutR G [37] a 1 v = some G1) (kk : ∀ (H1 : Heap) (locs1 : List Loc), gC E G1 H1 → va_S (gx_C E) s.heap H1 locs1 → WC E p l e R s m args below meth c H1 locs1 Q (F0 m (pc + 3) ls rest)) : WC E p l e R s m args below meth c H locs Q (F0 m pc ls (va_rf v :: .ref a :: rest)) := by
  unfold cPutR at hv
  split at hv
  · next ht =>
    cases hv
    have ht := List.mem_singleton.mp ht
    exact c_putv (ci := 36) (k := 1) (v := va_rf v) (G' := cSetR G a 1 v) hdg (Or.inl q1669) rfl in_X32 tyX32_ok nmX32 (by decide) (Or.inl rfl) (by decide) (Or.inr ⟨hnm, rfl, q1669⟩) (tyX32_ok 1 (by decide)) (c_narR v (Or.inl ⟨_, rfl⟩)).1 (c_narR v (Or.inl ⟨_, rfl⟩)).2 S hE hG hS ht (by decide) rfl rfl rfl rfl rfl rfl c_othR (c_hvR (fun _ _ _ => rfl)) hC0.2.2.2.2.2 kk
  · cases hv
theorem cg_X32_19 {a : Nat} {v : Nat} (hdg : decode cc pc = .ok (.getfield 19, 3)) (S : CallFix p m c cc nL s args lw_all RX32) (hE : gEnv E s) (hG : gC E G H) (hv : cGetR G [37] a 2 = some v) (kk : W p l e R s m args below meth c H locs cells slots Q (F0 m (pc + 3) ls (.ref v :: rest))) : W p l e R s m args below meth c H locs cells slots Q (F0 m pc ls (.ref a :: rest)) := by
  unfold cGetR at hv
  split at hv
  · next ht =>
    have ht := List.mem_singleton.mp ht
    exact c_getv (ci := 36) (k := 2) hdg (Or.inl q1670) rfl in_X32 (by decide) (by decide) (Or.inl rfl) (by show va_rf (cR G a 2) = _; rw [hv]; rfl) S hE hG ht kk
  · cases hv
theorem cp_X32_19i {a : Nat} {v : Option Nat} (hdg : decode cc pc = .ok (.putfield 19, 3)) (S : CallFix p m c cc nL s args lw_all RX32) (hE : gEnv E s) (hG : gC E G H) (hS : va_S (gx_C E) s.heap H locs) (hC0 : gC E Gz s.heap) (hnm : meth.name = "<init>") (hv : cPutR G [37] a 2 v = some G1) (kk : ∀ (H1 : Heap) (locs1 : List Loc), gC E G1 H1 → va_S (gx_C E) s.heap H1 locs1 → WC E p l e R s m args below meth c H1 locs1 Q (F0 m (pc + 3) ls rest)) : WC E p l e R s m args below meth c H locs Q (F0 m pc ls (va_rf v :: .ref a :: rest)) := by
  unfold cPutR at hv
  split at hv
  · next ht =>
    cases hv
    have ht := List.mem_singleton.mp ht
    exact c_putv (ci := 36) (k := 2) (v := va_rf v) (G' := cSetR G a 2 v) hdg (Or.inl q1670) rfl in_X32 tyX32_ok nmX32 (by decide) (Or.inl rfl) (by decide) (Or.inr ⟨hnm, rfl, q1670⟩) (tyX32_ok 2 (by decide)) (c_narR v (Or.inl ⟨_, rfl⟩)).1 (c_narR v (Or.inl ⟨_, rfl⟩)).2 S hE hG hS ht (by decide) rfl rfl rfl rfl rfl rfl c_othR (c_hvR (fun _ _ _ => rfl)) hC0.2.2.2.2.2 kk
  · cases hv
theorem cg_X32_22 {a : Nat} {v : Int32} (hdg : decode cc pc = .ok (.getfield 22, 3)) (S : CallFix p m c cc nL s args lw_all RX32) (hE : gEnv E s) (hG : gC E G H) (hv : cGetI G [37] a 3 = some v) (kk : W p l e R s m args below meth c H locs cells slots Q (F0 m (pc + 3) ls (.int v :: rest))) : W p l e R s m args below meth c H locs cells slots Q (F0 m pc ls (.ref a :: rest)) := by
  unfold cGetI at hv
  split at hv
  · next ht =>
    cases hv
    have ht := List.mem_singleton.mp ht
    exact c_getv (ci := 36) (k := 3) hdg (Or.inl q1671) rfl in_X32 (by decide) (by decide) (Or.inl rfl) rfl S hE hG ht kk
  · cases hv
theorem cp_X32_22i {a : Nat} {v : Int32} (hdg : decode cc pc = .ok (.putfield 22, 3)) (S : CallFix p m c cc nL s args lw_all RX32) (hE : gEnv E s) (hG : gC E G H) (hS : va_S (gx_C E) s.heap H locs) (hC0 : gC E Gz s.heap) (hnm : meth.name = "<init>") (hv : cPutZ G [37] a 3 v = some G1) (kk : ∀ (H1 : Heap) (locs1 : List Loc), gC E G1 H1 → va_S (gx_C E) s.heap H1 locs1 → WC E p l e R s m args below meth c H1 locs1 Q (F0 m (pc + 3) ls rest)) : WC E p l e R s m args below meth c H locs Q (F0 m pc ls (.int v :: .ref a :: rest)) := by
  unfold cPutZ at hv
  split at hv
  · next ht =>
    obtain ⟨ht, h01⟩ := ht
    cases hv
    have ht := List.mem_singleton.mp ht
    exact c_putv (ci := 36) (k := 3) (v := .int v) (G' := cSetI G a 3 v) hdg (Or.inl q1671) rfl in_X32 tyX32_ok nmX32 (by decide) (Or.inl rfl) (by decide) (Or.inr ⟨hnm, rfl, q1671⟩) (tyX32_ok 3 (by decide)) (by rcases h01 with rfl | rfl <;> decide) (by rcases h01 with rfl | rfl <;> decide) S hE hG hS ht (by decide) rfl rfl rfl rfl rfl rfl c_othI (c_hvI (fun _ _ _ => rfl)) hC0.2.2.2.2.2 kk
  · cases hv
theorem cg_X32_32 {a : Nat} {v : Int32} (hdg : decode cc pc = .ok (.getfield 32, 3)) (S : CallFix p m c cc nL s args lw_all RX32) (hE : gEnv E s) (hG : gC E G H) (hv : cGetI G [9] a 7 = some v) (kk : W p l e R s m args below meth c H locs cells slots Q (F0 m (pc + 3) ls (.int v :: rest))) : W p l e R s m args below meth c H locs cells slots Q (F0 m pc ls (.ref a :: rest)) := by
  unfold cGetI at hv
  split at hv
  · next ht =>
    cases hv
    have ht := List.mem_singleton.mp ht
    exact c_getv (ci := 8) (k := 7) hdg (Or.inr ⟨_, lw_nw q196 rfl⟩) rfl in_X1 (by decide) (by decide) (Or.inl rfl) rfl S hE hG ht kk
  · cases hv
theorem cg_X19_12 {a : Nat} {v : Nat} (hdg : decode cc pc = .ok (.getfield 12, 3)) (S : CallFix p m c cc nL s args lw_all RX19) (hE : gEnv E s) (hG : gC E G H) (hv : cGetR G [26] a 5 = some v) (kk : W p l e R s m args below meth c H locs cells slots Q (F0 m (pc + 3) ls (.ref v :: rest))) : W p l e R s m args below meth c H locs cells slots Q (F0 m pc ls (.ref a :: rest)) := by
  unfold cGetR at hv
  split at hv
  · next ht =>
    have ht := List.mem_singleton.mp ht
    exact c_getv (ci := 25) (k := 5) hdg (Or.inl q1330) rfl in_X19 (by decide) (by decide) (Or.inl rfl) (by show va_rf (cR G a 5) = _; rw [hv]; rfl) S hE hG ht kk
  · cases hv
theorem cp_X19_12i {a : Nat} {v : Option Nat} (hdg : decode cc pc = .ok (.putfield 12, 3)) (S : CallFix p m c cc nL s args lw_all RX19) (hE : gEnv E s) (hG : gC E G H) (hS : va_S (gx_C E) s.heap H locs) (hC0 : gC E Gz s.heap) (hnm : meth.name = "<init>") (hv : cPutR G [26] a 5 v = some G1) (kk : ∀ (H1 : Heap) (locs1 : List Loc), gC E G1 H1 → va_S (gx_C E) s.heap H1 locs1 → WC E p l e R s m args below meth c H1 locs1 Q (F0 m (pc + 3) ls rest)) : WC E p l e R s m args below meth c H locs Q (F0 m pc ls (va_rf v :: .ref a :: rest)) := by
  unfold cPutR at hv
  split at hv
  · next ht =>
    cases hv
    have ht := List.mem_singleton.mp ht
    exact c_putv (ci := 25) (k := 5) (v := va_rf v) (G' := cSetR G a 5 v) hdg (Or.inl q1330) rfl in_X19 tyX19_ok nmX19 (by decide) (Or.inl rfl) (by decide) (Or.inr ⟨hnm, rfl, q1330⟩) (tyX19_ok 5 (by decide)) (c_narR v (Or.inl ⟨_, rfl⟩)).1 (c_narR v (Or.inl ⟨_, rfl⟩)).2 S hE hG hS ht (by decide) rfl rfl rfl rfl rfl rfl c_othR (c_hvR (fun _ _ _ => rfl)) hC0.2.2.2.2.2 kk
  · cases hv
theorem cg_X19_21 {a : Nat} {v : Nat} (hdg : decode cc pc = .ok (.getfield 21, 3)) (S : CallFix p m c cc nL s args lw_all RX19) (hE : gEnv E s) (hG : gC E G H) (hv : cGetR G [26] a 3 = some v) (kk : W p l e R s m args below meth c H locs cells slots Q (F0 m (pc + 3) ls (.ref v :: rest))) : W p l e R s m args below meth c H locs cells slots Q (F0 m pc ls (.ref a :: rest)) := by
  unfold cGetR at hv
  split at hv
  · next ht =>
    have ht := List.mem_singleton.mp ht
    exact c_getv (ci := 25) (k := 3) hdg (Or.inl q1328) rfl in_X19 (by decide) (by decide) (Or.inl rfl) (by show va_rf (cR G a 3) = _; rw [hv]; rfl) S hE hG ht kk
  · cases hv
theorem cp_X19_21i {a : Nat} {v : Option Nat} (hdg : decode cc pc = .ok (.putfield 21, 3)) (S : CallFix p m c cc nL s args lw_all RX19) (hE : gEnv E s) (hG : gC E G H) (hS : va_S (gx_C E) s.heap H locs) (hC0 : gC E Gz s.heap) (hnm : meth.name = "<init>") (hv : cPutR G [26] a 3 v = some G1) (kk : ∀ (H1 : Heap) (locs1 : List Loc), gC E G1 H1 → va_S (gx_C E) s.heap H1 locs1 → WC E p l e R s m args below meth c H1 locs1 Q (F0 m (pc + 3) ls rest)) : WC E p l e R s m args below meth c H locs Q (F0 m pc ls (va_rf v :: .ref a :: rest)) := by
  unfold cPutR at hv
  split at hv
  · next ht =>
    cases hv
    have ht := List.mem_singleton.mp ht
    exact c_putv (ci := 25) (k := 3) (v := va_rf v) (G' := cSetR G a 3 v) hdg (Or.inl q1328) rfl in_X19 tyX19_ok nmX19 (by decide) (Or.inl rfl) (by decide) (Or.inr ⟨hnm, rfl, q1328⟩) (tyX19_ok 3 (by decide)) (c_narR v (Or.inl ⟨_, rfl⟩)).1 (c_narR v (Or.inl ⟨_, rfl⟩)).2 S hE hG hS ht (by decide) rfl rfl rfl rfl rfl rfl c_othR (c_hvR (fun _ _ _ => rfl)) hC0.2.2.2.2.2 kk
  · cases hv
theorem cg_X19_28 {a : Nat} {v : Nat} (hdg : decode cc pc = .ok (.getfield 28, 3)) (S : CallFix p m c cc nL s args lw_all RX19) (hE : gEnv E s) (hG : gC E G H) (hv : cGetR G [26] a 4 = some v) (kk : W p l e R s m args below meth c H locs cells slots Q (F0 m (pc + 3) ls (.ref v :: rest))) : W p l e R s m args below meth c H locs cells slots Q (F0 m pc ls (.ref a :: rest)) := by
  unfold cGetR at hv
  split at hv
  · next ht =>
    have ht := List.mem_singleton.mp ht
    exact c_getv (ci := 25) (k := 4) hdg (Or.inl q1329) rfl in_X19 (by decide) (by decide) (Or.inl rfl) (by show va_rf (cR G a 4) = _; rw [hv]; rfl) S hE hG ht kk
  · cases hv
theorem cp_X19_28i {a : Nat} {v : Option Nat} (hdg : decode cc pc = .ok (.putfield 28, 3)) (S : CallFix p m c cc nL s args lw_all RX19) (hE : gEnv E s) (hG : gC E G H) (hS : va_S (gx_C E) s.heap H locs) (hC0 : gC E Gz s.heap) (hnm : meth.name = "<init>") (hv : cPutR G [26] a 4 v = some G1) (kk : ∀ (H1 : Heap) (locs1 : List Loc), gC E G1 H1 → va_S (gx_C E) s.heap H1 locs1 → WC E p l e R s m args below meth c H1 locs1 Q (F0 m (pc + 3) ls rest)) : WC E p l e R s m args below meth c H locs Q (F0 m pc ls (va_rf v :: .ref a :: rest)) := by
  unfold cPutR at hv
  split at hv
  · next ht =>
    cases hv
    have ht := List.mem_singleton.mp ht
    exact c_putv (ci := 25) (k := 4) (v := va_rf v) (G' := cSetR G a 4 v) hdg (Or.inl q1329) rfl in_X19 tyX19_ok nmX19 (by decide) (Or.inl rfl) (by decide) (Or.inr ⟨hnm, rfl, q1329⟩) (tyX19_ok 4 (by decide)) (c_narR v (Or.inl ⟨_, rfl⟩)).1 (c_narR v (Or.inl ⟨_, rfl⟩)).2 S hE hG hS ht (by decide) rfl rfl rfl rfl rfl rfl c_othR (c_hvR (fun _ _ _ => rfl)) hC0.2.2.2.2.2 kk
  · cases hv
theorem cg_X19_43 {a : Nat} {v : Int32} (hdg : decode cc pc = .ok (.getfield 43, 3)) (S : CallFix p m c cc nL s args lw_all RX19) (hE : gEnv E s) (hG : gC E G H) (hv : cGetI G [22] a 0 = some v) (kk : W p l e R s m args below meth c H locs cells slots Q (F0 m (pc + 3) ls (.int v :: rest))) : W p l e R s m args below meth c H locs cells slots Q (F0 m pc ls (.ref a :: rest)) := by
  unfold cGetI at hv
  split at hv
  · next ht =>
    cases hv
    have ht := List.mem_singleton.mp ht
    exact c_getv (ci := 21) (k := 0) hdg (Or.inr ⟨_, lw_nw q1242 rfl⟩) rfl in_X15 (by decide) (by decide) (Or.inl rfl) rfl S hE hG ht kk
  · cases hv
theorem cg_X19_47 {a : Nat} {v : Int32} (hdg : decode cc pc = .ok (.getfield 47, 3)) (S : CallFix p m c cc nL s args lw_all RX19) (hE : gEnv E s) (hG : gC E G H) (hv : cGetI G [24] a 1 = some v) (kk : W p l e R s m args below meth c H locs cells slots Q (F0 m (pc + 3) ls (.int v :: rest))) : W p l e R s m args below meth c H locs cells slots Q (F0 m pc ls (.ref a :: rest)) := by
  unfold cGetI at hv
  split at hv
  · next ht =>
    cases hv
    have ht := List.mem_singleton.mp ht
    exact c_getv (ci := 23) (k := 1) hdg (Or.inr ⟨_, lw_nw q1276 rfl⟩) rfl in_X17 (by decide) (by decide) (Or.inl rfl) rfl S hE hG ht kk
  · cases hv
theorem cg_X28_7 {a : Nat} {v : Int32} (hdg : decode cc pc = .ok (.getfield 7, 3)) (S : CallFix p m c cc nL s args lw_all RX28) (hE : gEnv E s) (hG : gC E G H) (hv : cGetI G [34] a 0 = some v) (kk : W p l e R s m args below meth c H locs cells slots Q (F0 m (pc + 3) ls (.int v :: rest))) : W p l e R s m args below meth c H locs cells slots Q (F0 m pc ls (.ref a :: rest)) := by
  unfold cGetI at hv
  split at hv
  · next ht =>
    cases hv
    have ht := List.mem_singleton.mp ht
    exact c_getv (ci := 33) (k := 0) hdg (Or.inl q1599) rfl in_X28 (by decide) (by decide) (Or.inl rfl) rfl S hE hG ht kk
  · cases hv
theorem cp_X28_7i {a : Nat} {v : Int32} (hdg : decode cc pc = .ok (.putfield 7, 3)) (S : CallFix p m c cc nL s args lw_all RX28) (hE : gEnv E s) (hG : gC E G H) (hS : va_S (gx_C E) s.heap H locs) (hC0 : gC E Gz s.heap) (hnm : meth.name = "<init>") (hv : cPutI G [34] a 0 v = some G1) (kk : ∀ (H1 : Heap) (locs1 : List Loc), gC E G1 H1 → va_S (gx_C E) s.heap H1 locs1 → WC E p l e R s m args below meth c H1 locs1 Q (F0 m (pc + 3) ls rest)) : WC E p l e R s m args below meth c H locs Q (F0 m pc ls (.int v :: .ref a :: rest)) := by
  unfold cPutI at hv
  split at hv
  · next ht =>
    cases hv
    have ht := List.mem_singleton.mp ht
    exact c_putv (ci := 33) (k := 0) (v := .int v) (G' := cSetI G a 0 v) hdg (Or.inl q1599) rfl in_X28 tyX28_ok nmX28 (by decide) (Or.inl rfl) (by decide) (Or.inr ⟨hnm, rfl, q1599⟩) (tyX28_ok 0 (by decide)) rfl rfl S hE hG hS ht (by decide) rfl rfl rfl rfl rfl rfl c_othI (c_hvI (fun _ _ _ => rfl)) hC0.2.2.2.2.2 kk
  · cases hv
theorem cg_X28_13 {a : Nat} {v : Nat} (hdg : decode cc pc = .ok (.getfield 13, 3)) (S : CallFix p m c cc nL s args lw_all RX28) (hE : gEnv E s) (hG : gC E G H) (hv : cGetR G [14, 18, 20, 21, 23, 25, 26, 27, 28] a 1 = some v) (kk : W p l e R s m args below meth c H locs cells slots Q (F0 m (pc + 3) ls (.ref v :: rest))) : W p l e R s m args below meth c H locs cells slots Q (F0 m pc ls (.ref a :: rest)) := by
  unfold cGetR at hv
  split at hv
  · next ht =>
    simp only [List.mem_cons, List.not_mem_nil, or_false] at ht
    rcases ht with ht | ht | ht | ht | ht | ht | ht | ht | ht
    · exact c_getv (ci := 13) (k := 1) hdg (Or.inl q1138) rfl in_X7 (by decide) (by decide) (Or.inl rfl) (by show va_rf (cR G a 1) = _; rw [hv]; rfl) S hE hG ht kk
    · exact c_getv (ci := 17) (k := 1) hdg (Or.inl q1138) rfl in_X11 (by decide) (by decide) (Or.inl rfl) (by show va_rf (cR G a 1) = _; rw [hv]; rfl) S hE hG ht kk
    · exact c_getv (ci := 19) (k := 1) hdg (Or.inl q1138) rfl in_X13 (by decide) (by decide) (Or.inl rfl) (by show va_rf (cR G a 1) = _; rw [hv]; rfl) S hE hG ht kk
    · exact c_getv (ci := 20) (k := 1) hdg (Or.inl q1138) rfl in_X14 (by decide) (by decide) (Or.inl rfl) (by show va_rf (cR G a 1) = _; rw [hv]; rfl) S hE hG ht kk
    · exact c_getv (ci := 22) (k := 1) hdg (Or.inl q1138) rfl in_X16 (by decide) (by decide) (Or.inl rfl) (by show va_rf (cR G a 1) = _; rw [hv]; rfl) S hE hG ht kk
    · exact c_getv (ci := 24) (k := 1) hdg (Or.inl q1138) rfl in_X18 (by decide) (by decide) (Or.inl rfl) (by show va_rf (cR G a 1) = _; rw [hv]; rfl) S hE hG ht kk
    · exact c_getv (ci := 25) (k := 1) hdg (Or.inl q1138) rfl in_X19 (by decide) (by decide) (Or.inl rfl) (by show va_rf (cR G a 1) = _; rw [hv]; rfl) S hE hG ht kk
    · exact c_getv (ci := 26) (k := 1) hdg (Or.inl q1138) rfl in_X20 (by decide) (by decide) (Or.inl rfl) (by show va_rf (cR G a 1) = _; rw [hv]; rfl) S hE hG ht kk
    · exact c_getv (ci := 27) (k := 1) hdg (Or.inl q1138) rfl in_X21 (by decide) (by decide) (Or.inl rfl) (by show va_rf (cR G a 1) = _; rw [hv]; rfl) S hE hG ht kk
  · cases hv
theorem cg_X28_19 {a : Nat} {v : Int32} (hdg : decode cc pc = .ok (.getfield 19, 3)) (S : CallFix p m c cc nL s args lw_all RX28) (hE : gEnv E s) (hG : gC E G H) (hv : cGetI G [15] a 9 = some v) (kk : W p l e R s m args below meth c H locs cells slots Q (F0 m (pc + 3) ls (.int v :: rest))) : W p l e R s m args below meth c H locs cells slots Q (F0 m pc ls (.ref a :: rest)) := by
  unfold cGetI at hv
  split at hv
  · next ht =>
    cases hv
    have ht := List.mem_singleton.mp ht
    exact c_getv (ci := 14) (k := 9) hdg (Or.inr ⟨_, lw_nw q1034 rfl⟩) rfl in_X8 (by decide) (by decide) (Or.inl rfl) rfl S hE hG ht kk
  · cases hv
theorem cg_X28_24 {a : Nat} {v : Int32} (hdg : decode cc pc = .ok (.getfield 24, 3)) (S : CallFix p m c cc nL s args lw_all RX28) (hE : gEnv E s) (hG : gC E G H) (hv : cGetI G [9] a 5 = some v) (kk : W p l e R s m args below meth c H locs cells slots Q (F0 m (pc + 3) ls (.int v :: rest))) : W p l e R s m args below meth c H locs cells slots Q (F0 m pc ls (.ref a :: rest)) := by
  unfold cGetI at hv
  split at hv
  · next ht =>
    cases hv
    have ht := List.mem_singleton.mp ht
    exact c_getv (ci := 8) (k := 5) hdg (Or.inr ⟨_, lw_nw q192 rfl⟩) rfl in_X1 (by decide) (by decide) (Or.inl rfl) rfl S hE hG ht kk
  · cases hv
theorem cg_X28_29 {a : Nat} {v : Int32} (hdg : decode cc pc = .ok (.getfield 29, 3)) (S : CallFix p m c cc nL s args lw_all RX28) (hE : gEnv E s) (hG : gC E G H) (hv : cGetI G [9] a 6 = some v) (kk : W p l e R s m args below meth c H locs cells slots Q (F0 m (pc + 3) ls (.int v :: rest))) : W p l e R s m args below meth c H locs cells slots Q (F0 m pc ls (.ref a :: rest)) := by
  unfold cGetI at hv
  split at hv
  · next ht =>
    cases hv
    have ht := List.mem_singleton.mp ht
    exact c_getv (ci := 8) (k := 6) hdg (Or.inr ⟨_, lw_nw q194 rfl⟩) rfl in_X1 (by decide) (by decide) (Or.inl rfl) rfl S hE hG ht kk
  · cases hv
theorem cp_X12_7i {a : Nat} {v : Int32} (hdg : decode cc pc = .ok (.putfield 7, 3)) (S : CallFix p m c cc nL s args lw_all RX12) (hE : gEnv E s) (hG : gC E G H) (hS : va_S (gx_C E) s.heap H locs) (hC0 : gC E Gz s.heap) (hnm : meth.name = "<init>") (hv : cPutI G [19] a 0 v = some G1) (kk : ∀ (H1 : Heap) (locs1 : List Loc), gC E G1 H1 → va_S (gx_C E) s.heap H1 locs1 → WC E p l e R s m args below meth c H1 locs1 Q (F0 m (pc + 3) ls rest)) : WC E p l e R s m args below meth c H locs Q (F0 m pc ls (.int v :: .ref a :: rest)) := by
  unfold cPutI at hv
  split at hv
  · next ht =>
    cases hv
    have ht := List.mem_singleton.mp ht
    exact c_putv (ci := 18) (k := 0) (v := .int v) (G' := cSetI G a 0 v) hdg (Or.inl q1165) rfl in_X12 tyX12_ok nmX12 (by decide) (Or.inl rfl) (by decide) (Or.inr ⟨hnm, rfl, q1165⟩) (tyX12_ok 0 (by decide)) rfl rfl S hE hG hS ht (by decide) rfl rfl rfl rfl rfl rfl c_othI (c_hvI (fun _ _ _ => rfl)) hC0.2.2.2.2.2 kk
  · cases hv
theorem cp_X12_13i {a : Nat} {v : Int32} (hdg : decode cc pc = .ok (.putfield 13, 3)) (S : CallFix p m c cc nL s args lw_all RX12) (hE : gEnv E s) (hG : gC E G H) (hS : va_S (gx_C E) s.heap H locs) (hC0 : gC E Gz s.heap) (hnm : meth.name = "<init>") (hv : cPutI G [19] a 1 v = some G1) (kk : ∀ (H1 : Heap) (locs1 : List Loc), gC E G1 H1 → va_S (gx_C E) s.heap H1 locs1 → WC E p l e R s m args below meth c H1 locs1 Q (F0 m (pc + 3) ls rest)) : WC E p l e R s m args below meth c H locs Q (F0 m pc ls (.int v :: .ref a :: rest)) := by
  unfold cPutI at hv
  split at hv
  · next ht =>
    cases hv
    have ht := List.mem_singleton.mp ht
    exact c_putv (ci := 18) (k := 1) (v := .int v) (G' := cSetI G a 1 v) hdg (Or.inl q1167) rfl in_X12 tyX12_ok nmX12 (by decide) (Or.inl rfl) (by decide) (Or.inr ⟨hnm, rfl, q1167⟩) (tyX12_ok 1 (by decide)) rfl rfl S hE hG hS ht (by decide) rfl rfl rfl rfl rfl rfl c_othI (c_hvI (fun _ _ _ => rfl)) hC0.2.2.2.2.2 kk
  · cases hv
theorem cg_X12_16 {a : Nat} {v : Int32} (hdg : decode cc pc = .ok (.getfield 16, 3)) (S : CallFix p m c cc nL s args lw_all RX12) (hE : gEnv E s) (hG : gC E G H) (hv : cGetI G [19] a 2 = some v) (kk : W p l e R s m args below meth c H locs cells slots Q (F0 m (pc + 3) ls (.int v :: rest))) : W p l e R s m args below meth c H locs cells slots Q (F0 m pc ls (.ref a :: rest)) := by
  unfold cGetI at hv
  split at hv
  · next ht =>
    cases hv
    have ht := List.mem_singleton.mp ht
    exact c_getv (ci := 18) (k := 2) hdg (Or.inl q1171) rfl in_X12 (by decide) (by decide) (Or.inl rfl) rfl S hE hG ht kk
  · cases hv
theorem cp_X12_16 {a : Nat} {v : Int32} (hdg : decode cc pc = .ok (.putfield 16, 3)) (S : CallFix p m c cc nL s args lw_all RX12) (hE : gEnv E s) (hG : gC E G H) (hS : va_S (gx_C E) s.heap H locs) (hC0 : gC E Gz s.heap) (hv : cPutI G [19] a 2 v = some G1) (kk : ∀ (H1 : Heap) (locs1 : List Loc), gC E G1 H1 → va_S (gx_C E) s.heap H1 locs1 → WC E p l e R s m args below meth c H1 locs1 Q (F0 m (pc + 3) ls rest)) : WC E p l e R s m args below meth c H locs Q (F0 m pc ls (.int v :: .ref a :: rest)) := by
  unfold cPutI at hv
  split at hv
  · next ht =>
    cases hv
    have ht := List.mem_singleton.mp ht
    exact c_putv (ci := 18) (k := 2) (v := .int v) (G' := cSetI G a 2 v) hdg (Or.inl q1171) rfl in_X12 tyX12_ok nmX12 (by decide) (Or.inl rfl) (by decide) (Or.inl rfl) (tyX12_ok 2 (by decide)) rfl rfl S hE hG hS ht (by decide) rfl rfl rfl rfl rfl rfl c_othI (c_hvI (fun _ _ _ => rfl)) hC0.2.2.2.2.2 kk
  · cases hv
theorem cg_X12_19 {a : Nat} {v : Int32} (hdg : decode cc pc = .ok (.getfield 19, 3)) (S : CallFix p m c cc nL s args lw_all RX12) (hE : gEnv E s) (hG : gC E G H) (hv : cGetI G [19] a 3 = some v) (kk : W p l e R s m args below meth c H locs cells slots Q (F0 m (pc + 3) ls (.int v :: rest))) : W p l e R s m args below meth c H locs cells slots Q (F0 m pc ls (.ref a :: rest)) := by
  unfold cGetI at hv
  split at hv
  · next ht =>
    cases hv
    have ht := List.mem_singleton.mp ht
    exact c_getv (ci := 18) (k := 3) hdg (Or.inl q1175) rfl in_X12 (by decide) (by decide) (Or.inl rfl) rfl S hE hG ht kk
  · cases hv
theorem cp_X12_22 {a : Nat} {v : Int32} (hdg : decode cc pc = .ok (.putfield 22, 3)) (S : CallFix p m c cc nL s args lw_all RX12) (hE : gEnv E s) (hG : gC E G H) (hS : va_S (gx_C E) s.heap H locs) (hC0 : gC E Gz s.heap) (hv : cPutI G [19] a 4 v = some G1) (kk : ∀ (H1 : Heap) (locs1 : List Loc), gC E G1 H1 → va_S (gx_C E) s.heap H1 locs1 → WC E p l e R s m args below meth c H1 locs1 Q (F0 m (pc + 3) ls rest)) : WC E p l e R s m args below meth c H locs Q (F0 m pc ls (.int v :: .ref a :: rest)) := by
  unfold cPutI at hv
  split at hv
  · next ht =>
    cases hv
    have ht := List.mem_singleton.mp ht
    exact c_putv (ci := 18) (k := 4) (v := .int v) (G' := cSetI G a 4 v) hdg (Or.inl q1178) rfl in_X12 tyX12_ok nmX12 (by decide) (Or.inl rfl) (by decide) (Or.inl rfl) (tyX12_ok 4 (by decide)) rfl rfl S hE hG hS ht (by decide) rfl rfl rfl rfl rfl rfl c_othI (c_hvI (fun _ _ _ => rfl)) hC0.2.2.2.2.2 kk
  · cases hv
theorem cg_X38_7 {a : Nat} {v : Int32} (hdg : decode cc pc = .ok (.getfield 7, 3)) (S : CallFix p m c cc nL s args lw_all RX38) (hE : gEnv E s) (hG : gC E G H) (hv : cGetI G [24] a 1 = some v) (kk : W p l e R s m args below meth c H locs cells slots Q (F0 m (pc + 3) ls (.int v :: rest))) : W p l e R s m args below meth c H locs cells slots Q (F0 m pc ls (.ref a :: rest)) := by
  unfold cGetI at hv
  split at hv
  · next ht =>
    cases hv
    have ht := List.mem_singleton.mp ht
    exact c_getv (ci := 23) (k := 1) hdg (Or.inr ⟨_, lw_nw q1275 rfl⟩) rfl in_X17 (by decide) (by decide) (Or.inl rfl) rfl S hE hG ht kk
  · cases hv
theorem cg_X38_13 {a : Nat} {v : Int32} (hdg : decode cc pc = .ok (.getfield 13, 3)) (S : CallFix p m c cc nL s args lw_all RX38) (hE : gEnv E s) (hG : gC E G H) (hv : cGetI G [24] a 0 = some v) (kk : W p l e R s m args below meth c H locs cells slots Q (F0 m (pc + 3) ls (.int v :: rest))) : W p l e R s m args below meth c H locs cells slots Q (F0 m pc ls (.ref a :: rest)) := by
  unfold cGetI at hv
  split at hv
  · next ht =>
    cases hv
    have ht := List.mem_singleton.mp ht
    exact c_getv (ci := 23) (k := 0) hdg (Or.inr ⟨_, lw_nw q1274 rfl⟩) rfl in_X17 (by decide) (by decide) (Or.inl rfl) rfl S hE hG ht kk
  · cases hv
theorem cg_X36_7 {a : Nat} {v : Int32} (hdg : decode cc pc = .ok (.getfield 7, 3)) (S : CallFix p m c cc nL s args lw_all RX36) (hE : gEnv E s) (hG : gC E G H) (hv : cGetI G [19] a 4 = some v) (kk : W p l e R s m args below meth c H locs cells slots Q (F0 m (pc + 3) ls (.int v :: rest))) : W p l e R s m args below meth c H locs cells slots Q (F0 m pc ls (.ref a :: rest)) := by
  unfold cGetI at hv
  split at hv
  · next ht =>
    cases hv
    have ht := List.mem_singleton.mp ht
    exact c_getv (ci := 18) (k := 4) hdg (Or.inr ⟨_, lw_nw q1177 rfl⟩) rfl in_X12 (by decide) (by decide) (Or.inl rfl) rfl S hE hG ht kk
  · cases hv
theorem cg_X36_13 {a : Nat} {v : Int32} (hdg : decode cc pc = .ok (.getfield 13, 3)) (S : CallFix p m c cc nL s args lw_all RX36) (hE : gEnv E s) (hG : gC E G H) (hv : cGetI G [19] a 0 = some v) (kk : W p l e R s m args below meth c H locs cells slots Q (F0 m (pc + 3) ls (.int v :: rest))) : W p l e R s m args below meth c H locs cells slots Q (F0 m pc ls (.ref a :: rest)) := by
  unfold cGetI at hv
  split at hv
  · next ht =>
    cases hv
    have ht := List.mem_singleton.mp ht
    exact c_getv (ci := 18) (k := 0) hdg (Or.inr ⟨_, lw_nw q1166 rfl⟩) rfl in_X12 (by decide) (by decide) (Or.inl rfl) rfl S hE hG ht kk
  · cases hv
theorem cg_X36_16 {a : Nat} {v : Int32} (hdg : decode cc pc = .ok (.getfield 16, 3)) (S : CallFix p m c cc nL s args lw_all RX36) (hE : gEnv E s) (hG : gC E G H) (hv : cGetI G [19] a 2 = some v) (kk : W p l e R s m args below meth c H locs cells slots Q (F0 m (pc + 3) ls (.int v :: rest))) : W p l e R s m args below meth c H locs cells slots Q (F0 m pc ls (.ref a :: rest)) := by
  unfold cGetI at hv
  split at hv
  · next ht =>
    cases hv
    have ht := List.mem_singleton.mp ht
    exact c_getv (ci := 18) (k := 2) hdg (Or.inr ⟨_, lw_nw q1172 rfl⟩) rfl in_X12 (by decide) (by decide) (Or.inl rfl) rfl S hE hG ht kk
  · cases hv
theorem cg_X36_19 {a : Nat} {v : Int32} (hdg : decode cc pc = .ok (.getfield 19, 3)) (S : CallFix p m c cc nL s args lw_all RX36) (hE : gEnv E s) (hG : gC E G H) (hv : cGetI G [19] a 1 = some v) (kk : W p l e R s m args below meth c H locs cells slots Q (F0 m (pc + 3) ls (.int v :: rest))) : W p l e R s m args below meth c H locs cells slots Q (F0 m pc ls (.ref a :: rest)) := by
  unfold cGetI at hv
  split at hv
  · next ht =>
    cases hv
    have ht := List.mem_singleton.mp ht
    exact c_getv (ci := 18) (k := 1) hdg (Or.inr ⟨_, lw_nw q1168 rfl⟩) rfl in_X12 (by decide) (by decide) (Or.inl rfl) rfl S hE hG ht kk
  · cases hv
theorem cp_X17_7i {a : Nat} {v : Int32} (hdg : decode cc pc = .ok (.putfield 7, 3)) (S : CallFix p m c cc nL s args lw_all RX17) (hE : gEnv E s) (hG : gC E G H) (hS : va_S (gx_C E) s.heap H locs) (hC0 : gC E Gz s.heap) (hnm : meth.name = "<init>") (hv : cPutI G [24] a 0 v = some G1) (kk : ∀ (H1 : Heap) (locs1 : List Loc), gC E G1 H1 → va_S (gx_C E) s.heap H1 locs1 → WC E p l e R s m args below meth c H1 locs1 Q (F0 m (pc + 3) ls rest)) : WC E p l e R s m args below meth c H locs Q (F0 m pc ls (.int v :: .ref a :: rest)) := by
  unfold cPutI at hv
  split at hv
  · next ht =>
    cases hv
    have ht := List.mem_singleton.mp ht
    exact c_putv (ci := 23) (k := 0) (v := .int v) (G' := cSetI G a 0 v) hdg (Or.inl q1273) rfl in_X17 tyX17_ok nmX17 (by decide) (Or.inl rfl) (by decide) (Or.inr ⟨hnm, rfl, q1273⟩) (tyX17_ok 0 (by decide)) rfl rfl S hE hG hS ht (by decide) rfl rfl rfl rfl rfl rfl c_othI (c_hvI (fun _ _ _ => rfl)) hC0.2.2.2.2.2 kk
  · cases hv
theorem cg_X24_7 {a : Nat} {v : Nat} (hdg : decode cc pc = .ok (.getfield 7, 3)) (S : CallFix p m c cc nL s args lw_all RX24) (hE : gEnv E s) (hG : gC E G H) (hv : cGetR G [30] a 0 = some v) (kk : W p l e R s m args below meth c H locs cells slots Q (F0 m (pc + 3) ls (.ref v :: rest))) : W p l e R s m args below meth c H locs cells slots Q (F0 m pc ls (.ref a :: rest)) := by
  unfold cGetR at hv
  split at hv
  · next ht =>
    have ht := List.mem_singleton.mp ht
    exact c_getv (ci := 29) (k := 0) hdg (Or.inl q1539) rfl in_X24 (by decide) (by decide) (Or.inl rfl) (by show va_rf (cR G a 0) = _; rw [hv]; rfl) S hE hG ht kk
  · cases hv
theorem cp_X24_7i {a : Nat} {v : Option Nat} (hdg : decode cc pc = .ok (.putfield 7, 3)) (S : CallFix p m c cc nL s args lw_all RX24) (hE : gEnv E s) (hG : gC E G H) (hS : va_S (gx_C E) s.heap H locs) (hC0 : gC E Gz s.heap) (hnm : meth.name = "<init>") (hv : cPutR G [30] a 0 v = some G1) (kk : ∀ (H1 : Heap) (locs1 : List Loc), gC E G1 H1 → va_S (gx_C E) s.heap H1 locs1 → WC E p l e R s m args below meth c H1 locs1 Q (F0 m (pc + 3) ls rest)) : WC E p l e R s m args below meth c H locs Q (F0 m pc ls (va_rf v :: .ref a :: rest)) := by
  unfold cPutR at hv
  split at hv
  · next ht =>
    cases hv
    have ht := List.mem_singleton.mp ht
    exact c_putv (ci := 29) (k := 0) (v := va_rf v) (G' := cSetR G a 0 v) hdg (Or.inl q1539) rfl in_X24 tyX24_ok nmX24 (by decide) (Or.inl rfl) (by decide) (Or.inr ⟨hnm, rfl, q1539⟩) (tyX24_ok 0 (by decide)) (c_narR v (Or.inl ⟨_, rfl⟩)).1 (c_narR v (Or.inl ⟨_, rfl⟩)).2 S hE hG hS ht (by decide) rfl rfl rfl rfl rfl rfl c_othR (c_hvR (fun _ _ _ => rfl)) hC0.2.2.2.2.2 kk
  · cases hv
theorem cg_X5_7 {a : Nat} {v : Int64} (hdg : decode cc pc = .ok (.getfield 7, 3)) (S : CallFix p m c cc nL s args lw_all RX5) (hE : gEnv E s) (hG : gC E G H) (hv : cGetJ G [13] a 0 = some v) (kk : W p l e R s m args below meth c H locs cells slots Q (F0 m (pc + 3) ls (.long v :: rest))) : W p l e R s m args below meth c H locs cells slots Q (F0 m pc ls (.ref a :: rest)) := by
  unfold cGetJ at hv
  split at hv
  · next ht =>
    cases hv
    have ht := List.mem_singleton.mp ht
    exact c_getv (ci := 12) (k := 0) hdg (Or.inl q910) rfl in_X5 (by decide) (by decide) (Or.inl rfl) rfl S hE hG ht kk
  · cases hv
theorem cp_X5_7i {a : Nat} {v : Int64} (hdg : decode cc pc = .ok (.putfield 7, 3)) (S : CallFix p m c cc nL s args lw_all RX5) (hE : gEnv E s) (hG : gC E G H) (hS : va_S (gx_C E) s.heap H locs) (hC0 : gC E Gz s.heap) (hnm : meth.name = "<init>") (hv : cPutJ G [13] a 0 v = some G1) (kk : ∀ (H1 : Heap) (locs1 : List Loc), gC E G1 H1 → va_S (gx_C E) s.heap H1 locs1 → WC E p l e R s m args below meth c H1 locs1 Q (F0 m (pc + 3) ls rest)) : WC E p l e R s m args below meth c H locs Q (F0 m pc ls (.long v :: .ref a :: rest)) := by
  unfold cPutJ at hv
  split at hv
  · next ht =>
    cases hv
    have ht := List.mem_singleton.mp ht
    exact c_putv (ci := 12) (k := 0) (v := .long v) (G' := cSetJ G a 0 v) hdg (Or.inl q910) rfl in_X5 tyX5_ok nmX5 (by decide) (Or.inl rfl) (by decide) (Or.inr ⟨hnm, rfl, q910⟩) (tyX5_ok 0 (by decide)) rfl rfl S hE hG hS ht (by decide) rfl rfl rfl rfl rfl rfl c_othJ (c_hvJ (fun _ _ _ => rfl)) hC0.2.2.2.2.2 kk
  · cases hv
theorem cg_X5_13 {a : Nat} {v : Int32} (hdg : decode cc pc = .ok (.getfield 13, 3)) (S : CallFix p m c cc nL s args lw_all RX5) (hE : gEnv E s) (hG : gC E G H) (hv : cGetI G [13] a 1 = some v) (kk : W p l e R s m args below meth c H locs cells slots Q (F0 m (pc + 3) ls (.int v :: rest))) : W p l e R s m args below meth c H locs cells slots Q (F0 m pc ls (.ref a :: rest)) := by
  unfold cGetI at hv
  split at hv
  · next ht =>
    cases hv
    have ht := List.mem_singleton.mp ht
    exact c_getv (ci := 12) (k := 1) hdg (Or.inl q911) rfl in_X5 (by decide) (by decide) (Or.inl rfl) rfl S hE hG ht kk
  · cases hv
theorem cp_X5_13i {a : Nat} {v : Int32} (hdg : decode cc pc = .ok (.putfield 13, 3)) (S : CallFix p m c cc nL s args lw_all RX5) (hE : gEnv E s) (hG : gC E G H) (hS : va_S (gx_C E) s.heap H locs) (hC0 : gC E Gz s.heap) (hnm : meth.name = "<init>") (hv : cPutI G [13] a 1 v = some G1) (kk : ∀ (H1 : Heap) (locs1 : List Loc), gC E G1 H1 → va_S (gx_C E) s.heap H1 locs1 → WC E p l e R s m args below meth c H1 locs1 Q (F0 m (pc + 3) ls rest)) : WC E p l e R s m args below meth c H locs Q (F0 m pc ls (.int v :: .ref a :: rest)) := by
  unfold cPutI at hv
  split at hv
  · next ht =>
    cases hv
    have ht := List.mem_singleton.mp ht
    exact c_putv (ci := 12) (k := 1) (v := .int v) (G' := cSetI G a 1 v) hdg (Or.inl q911) rfl in_X5 tyX5_ok nmX5 (by decide) (Or.inl rfl) (by decide) (Or.inr ⟨hnm, rfl, q911⟩) (tyX5_ok 1 (by decide)) rfl rfl S hE hG hS ht (by decide) rfl rfl rfl rfl rfl rfl c_othI (c_hvI (fun _ _ _ => rfl)) hC0.2.2.2.2.2 kk
  · cases hv
theorem cg_X5_17 {a : Nat} {v : Int32} (hdg : decode cc pc = .ok (.getfield 17, 3)) (S : CallFix p m c cc nL s args lw_all RX5) (hE : gEnv E s) (hG : gC E G H) (hv : cGetI G [13] a 2 = some v) (kk : W p l e R s m args below meth c H locs cells slots Q (F0 m (pc + 3) ls (.int v :: rest))) : W p l e R s m args below meth c H locs cells slots Q (F0 m pc ls (.ref a :: rest)) := by
  unfold cGetI at hv
  split at hv
  · next ht =>
    cases hv
    have ht := List.mem_singleton.mp ht
    exact c_getv (ci := 12) (k := 2) hdg (Or.inl q912) rfl in_X5 (by decide) (by decide) (Or.inl rfl) rfl S hE hG ht kk
  · cases hv
theorem cp_X5_17i {a : Nat} {v : Int32} (hdg : decode cc pc = .ok (.putfield 17, 3)) (S : CallFix p m c cc nL s args lw_all RX5) (hE : gEnv E s) (hG : gC E G H) (hS : va_S (gx_C E) s.heap H locs) (hC0 : gC E Gz s.heap) (hnm : meth.name = "<init>") (hv : cPutI G [13] a 2 v = some G1) (kk : ∀ (H1 : Heap) (locs1 : List Loc), gC E G1 H1 → va_S (gx_C E) s.heap H1 locs1 → WC E p l e R s m args below meth c H1 locs1 Q (F0 m (pc + 3) ls rest)) : WC E p l e R s m args below meth c H locs Q (F0 m pc ls (.int v :: .ref a :: rest)) := by
  unfold cPutI at hv
  split at hv
  · next ht =>
    cases hv
    have ht := List.mem_singleton.mp ht
    exact c_putv (ci := 12) (k := 2) (v := .int v) (G' := cSetI G a 2 v) hdg (Or.inl q912) rfl in_X5 tyX5_ok nmX5 (by decide) (Or.inl rfl) (by decide) (Or.inr ⟨hnm, rfl, q912⟩) (tyX5_ok 2 (by decide)) rfl rfl S hE hG hS ht (by decide) rfl rfl rfl rfl rfl rfl c_othI (c_hvI (fun _ _ _ => rfl)) hC0.2.2.2.2.2 kk
  · cases hv
theorem cg_X25_7 {a : Nat} {v : Int32} (hdg : decode cc pc = .ok (.getfield 7, 3)) (S : CallFix p m c cc nL s args lw_all RX25) (hE : gEnv E s) (hG : gC E G H) (hv : cGetI G [31] a 0 = some v) (kk : W p l e R s m args below meth c H locs cells slots Q (F0 m (pc + 3) ls (.int v :: rest))) : W p l e R s m args below meth c H locs cells slots Q (F0 m pc ls (.ref a :: rest)) := by
  unfold cGetI at hv
  split at hv
  · next ht =>
    cases hv
    have ht := List.mem_singleton.mp ht
    exact c_getv (ci := 30) (k := 0) hdg (Or.inl q1549) rfl in_X25 (by decide) (by decide) (Or.inl rfl) rfl S hE hG ht kk
  · cases hv
theorem cp_X25_7i {a : Nat} {v : Int32} (hdg : decode cc pc = .ok (.putfield 7, 3)) (S : CallFix p m c cc nL s args lw_all RX25) (hE : gEnv E s) (hG : gC E G H) (hS : va_S (gx_C E) s.heap H locs) (hC0 : gC E Gz s.heap) (hnm : meth.name = "<init>") (hv : cPutI G [31] a 0 v = some G1) (kk : ∀ (H1 : Heap) (locs1 : List Loc), gC E G1 H1 → va_S (gx_C E) s.heap H1 locs1 → WC E p l e R s m args below meth c H1 locs1 Q (F0 m (pc + 3) ls rest)) : WC E p l e R s m args below meth c H locs Q (F0 m pc ls (.int v :: .ref a :: rest)) := by
  unfold cPutI at hv
  split at hv
  · next ht =>
    cases hv
    have ht := List.mem_singleton.mp ht
    exact c_putv (ci := 30) (k := 0) (v := .int v) (G' := cSetI G a 0 v) hdg (Or.inl q1549) rfl in_X25 tyX25_ok nmX25 (by decide) (Or.inl rfl) (by decide) (Or.inr ⟨hnm, rfl, q1549⟩) (tyX25_ok 0 (by decide)) rfl rfl S hE hG hS ht (by decide) rfl rfl rfl rfl rfl rfl c_othI (c_hvI (fun _ _ _ => rfl)) hC0.2.2.2.2.2 kk
  · cases hv
theorem cg_X14_12 {a : Nat} {v : Nat} (hdg : decode cc pc = .ok (.getfield 12, 3)) (S : CallFix p m c cc nL s args lw_all RX14) (hE : gEnv E s) (hG : gC E G H) (hv : cGetR G [21] a 4 = some v) (kk : W p l e R s m args below meth c H locs cells slots Q (F0 m (pc + 3) ls (.ref v :: rest))) : W p l e R s m args below meth c H locs cells slots Q (F0 m pc ls (.ref a :: rest)) := by
  unfold cGetR at hv
  split at hv
  · next ht =>
    have ht := List.mem_singleton.mp ht
    exact c_getv (ci := 20) (k := 4) hdg (Or.inl q1252) rfl in_X14 (by decide) (by decide) (Or.inl rfl) (by show va_rf (cR G a 4) = _; rw [hv]; rfl) S hE hG ht kk
  · cases hv
theorem cp_X14_12i {a : Nat} {v : Option Nat} (hdg : decode cc pc = .ok (.putfield 12, 3)) (S : CallFix p m c cc nL s args lw_all RX14) (hE : gEnv E s) (hG : gC E G H) (hS : va_S (gx_C E) s.heap H locs) (hC0 : gC E Gz s.heap) (hnm : meth.name = "<init>") (hv : cPutR G [21] a 4 v = some G1) (kk : ∀ (H1 : Heap) (locs1 : List Loc), gC E G1 H1 → va_S (gx_C E) s.heap H1 locs1 → WC E p l e R s m args below meth c H1 locs1 Q (F0 m (pc + 3) ls rest)) : WC E p l e R s m args below meth c H locs Q (F0 m pc ls (va_rf v :: .ref a :: rest)) := by
  unfold cPutR at hv
  split at hv
  · next ht =>
    cases hv
    have ht := List.mem_singleton.mp ht
    exact c_putv (ci := 20) (k := 4) (v := va_rf v) (G' := cSetR G a 4 v) hdg (Or.inl q1252) rfl in_X14 tyX14_ok nmX14 (by decide) (Or.inl rfl) (by decide) (Or.inr ⟨hnm, rfl, q1252⟩) (tyX14_ok 4 (by decide)) (c_narR v (Or.inl ⟨_, rfl⟩)).1 (c_narR v (Or.inl ⟨_, rfl⟩)).2 S hE hG hS ht (by decide) rfl rfl rfl rfl rfl rfl c_othR (c_hvR (fun _ _ _ => rfl)) hC0.2.2.2.2.2 kk
  · cases hv
theorem cg_X14_23 {a : Nat} {v : Nat} (hdg : decode cc pc = .ok (.getfield 23, 3)) (S : CallFix p m c cc nL s args lw_all RX14) (hE : gEnv E s) (hG : gC E G H) (hv : cGetR G [21] a 3 = some v) (kk : W p l e R s m args below meth c H locs cells slots Q (F0 m (pc + 3) ls (.ref v :: rest))) : W p l e R s m args below meth c H locs cells slots Q (F0 m pc ls (.ref a :: rest)) := by
  unfold cGetR at hv
  split at hv
  · next ht =>
    have ht := List.mem_singleton.mp ht
    exact c_getv (ci := 20) (k := 3) hdg (Or.inl q1251) rfl in_X14 (by decide) (by decide) (Or.inl rfl) (by show va_rf (cR G a 3) = _; rw [hv]; rfl) S hE hG ht kk
  · cases hv
theorem cp_X14_23i {a : Nat} {v : Option Nat} (hdg : decode cc pc = .ok (.putfield 23, 3)) (S : CallFix p m c cc nL s args lw_all RX14) (hE : gEnv E s) (hG : gC E G H) (hS : va_S (gx_C E) s.heap H locs) (hC0 : gC E Gz s.heap) (hnm : meth.name = "<init>") (hv : cPutR G [21] a 3 v = some G1) (kk : ∀ (H1 : Heap) (locs1 : List Loc), gC E G1 H1 → va_S (gx_C E) s.heap H1 locs1 → WC E p l e R s m args below meth c H1 locs1 Q (F0 m (pc + 3) ls rest)) : WC E p l e R s m args below meth c H locs Q (F0 m pc ls (va_rf v :: .ref a :: rest)) := by
  unfold cPutR at hv
  split at hv
  · next ht =>
    cases hv
    have ht := List.mem_singleton.mp ht
    exact c_putv (ci := 20) (k := 3) (v := va_rf v) (G' := cSetR G a 3 v) hdg (Or.inl q1251) rfl in_X14 tyX14_ok nmX14 (by decide) (Or.inl rfl) (by decide) (Or.inr ⟨hnm, rfl, q1251⟩) (tyX14_ok 3 (by decide)) (c_narR v (Or.inl ⟨_, rfl⟩)).1 (c_narR v (Or.inl ⟨_, rfl⟩)).2 S hE hG hS ht (by decide) rfl rfl rfl rfl rfl rfl c_othR (c_hvR (fun _ _ _ => rfl)) hC0.2.2.2.2.2 kk
  · cases hv
theorem cg_X14_38 {a : Nat} {v : Int32} (hdg : decode cc pc = .ok (.getfield 38, 3)) (S : CallFix p m c cc nL s args lw_all RX14) (hE : gEnv E s) (hG : gC E G H) (hv : cGetI G [16] a 2 = some v) (kk : W p l e R s m args below meth c H locs cells slots Q (F0 m (pc + 3) ls (.int v :: rest))) : W p l e R s m args below meth c H locs cells slots Q (F0 m pc ls (.ref a :: rest)) := by
  unfold cGetI at hv
  split at hv
  · next ht =>
    cases hv
    have ht := List.mem_singleton.mp ht
    exact c_getv (ci := 15) (k := 2) hdg (Or.inr ⟨_, lw_nw q1084 rfl⟩) rfl in_X9 (by decide) (by decide) (Or.inl rfl) rfl S hE hG ht kk
  · cases hv
theorem cg_X14_42 {a : Nat} {v : Int32} (hdg : decode cc pc = .ok (.getfield 42, 3)) (S : CallFix p m c cc nL s args lw_all RX14) (hE : gEnv E s) (hG : gC E G H) (hv : cGetI G [22] a 0 = some v) (kk : W p l e R s m args below meth c H locs cells slots Q (F0 m (pc + 3) ls (.int v :: rest))) : W p l e R s m args below meth c H locs cells slots Q (F0 m pc ls (.ref a :: rest)) := by
  unfold cGetI at hv
  split at hv
  · next ht =>
    cases hv
    have ht := List.mem_singleton.mp ht
    exact c_getv (ci := 21) (k := 0) hdg (Or.inr ⟨_, lw_nw q1241 rfl⟩) rfl in_X15 (by decide) (by decide) (Or.inl rfl) rfl S hE hG ht kk
  · cases hv
theorem cp_X14_42 {a : Nat} {v : Int32} (hdg : decode cc pc = .ok (.putfield 42, 3)) (S : CallFix p m c cc nL s args lw_all RX14) (hE : gEnv E s) (hG : gC E G H) (hS : va_S (gx_C E) s.heap H locs) (hC0 : gC E Gz s.heap) (hv : cPutI G [22] a 0 v = some G1) (kk : ∀ (H1 : Heap) (locs1 : List Loc), gC E G1 H1 → va_S (gx_C E) s.heap H1 locs1 → WC E p l e R s m args below meth c H1 locs1 Q (F0 m (pc + 3) ls rest)) : WC E p l e R s m args below meth c H locs Q (F0 m pc ls (.int v :: .ref a :: rest)) := by
  unfold cPutI at hv
  split at hv
  · next ht =>
    cases hv
    have ht := List.mem_singleton.mp ht
    exact c_putv (ci := 21) (k := 0) (v := .int v) (G' := cSetI G a 0 v) hdg (Or.inr ⟨_, lw_nw q1241 rfl⟩) rfl in_X15 tyX15_ok nmX15 (by decide) (Or.inl rfl) (by decide) (Or.inl rfl) (tyX15_ok 0 (by decide)) rfl rfl S hE hG hS ht (by decide) rfl rfl rfl rfl rfl rfl c_othI (c_hvI (fun _ _ _ => rfl)) hC0.2.2.2.2.2 kk
  · cases hv
theorem cg_X3_12 {a : Nat} {v : Nat} (hdg : decode cc pc = .ok (.getfield 12, 3)) (S : CallFix p m c cc nL s args lw_all RX3) (hE : gEnv E s) (hG : gC E G H) (hv : cGetR G [11] a 8 = some v) (kk : W p l e R s m args below meth c H locs cells slots Q (F0 m (pc + 3) ls (.ref v :: rest))) : W p l e R s m args below meth c H locs cells slots Q (F0 m pc ls (.ref a :: rest)) := by
  unfold cGetR at hv
  split at hv
  · next ht =>
    have ht := List.mem_singleton.mp ht
    exact c_getv (ci := 10) (k := 8) hdg (Or.inl q636) rfl in_X3 (by decide) (by decide) (Or.inl rfl) (by show va_rf (cR G a 8) = _; rw [hv]; rfl) S hE hG ht kk
  · cases hv
theorem cp_X3_12i {a : Nat} {v : Option Nat} (hdg : decode cc pc = .ok (.putfield 12, 3)) (S : CallFix p m c cc nL s args lw_all RX3) (hE : gEnv E s) (hG : gC E G H) (hS : va_S (gx_C E) s.heap H locs) (hC0 : gC E Gz s.heap) (hnm : meth.name = "<init>") (hv : cPutR G [11] a 8 v = some G1) (kk : ∀ (H1 : Heap) (locs1 : List Loc), gC E G1 H1 → va_S (gx_C E) s.heap H1 locs1 → WC E p l e R s m args below meth c H1 locs1 Q (F0 m (pc + 3) ls rest)) : WC E p l e R s m args below meth c H locs Q (F0 m pc ls (va_rf v :: .ref a :: rest)) := by
  unfold cPutR at hv
  split at hv
  · next ht =>
    cases hv
    have ht := List.mem_singleton.mp ht
    exact c_putv (ci := 10) (k := 8) (v := va_rf v) (G' := cSetR G a 8 v) hdg (Or.inl q636) rfl in_X3 tyX3_ok nmX3 (by decide) (Or.inl rfl) (by decide) (Or.inr ⟨hnm, rfl, q636⟩) (tyX3_ok 8 (by decide)) (c_narR v (Or.inl ⟨_, rfl⟩)).1 (c_narR v (Or.inl ⟨_, rfl⟩)).2 S hE hG hS ht (by decide) rfl rfl rfl rfl rfl rfl c_othR (c_hvR (fun _ _ _ => rfl)) hC0.2.2.2.2.2 kk
  · cases hv
theorem cg_X3_18 {a : Nat} {v : Nat} (hdg : decode cc pc = .ok (.getfield 18, 3)) (S : CallFix p m c cc nL s args lw_all RX3) (hE : gEnv E s) (hG : gC E G H) (hv : cGetR G [11] a 9 = some v) (kk : W p l e R s m args below meth c H locs cells slots Q (F0 m (pc + 3) ls (.ref v :: rest))) : W p l e R s m args below meth c H locs cells slots Q (F0 m pc ls (.ref a :: rest)) := by
  unfold cGetR at hv
  split at hv
  · next ht =>
    have ht := List.mem_singleton.mp ht
    exact c_getv (ci := 10) (k := 9) hdg (Or.inl q637) rfl in_X3 (by decide) (by decide) (Or.inl rfl) (by show va_rf (cR G a 9) = _; rw [hv]; rfl) S hE hG ht kk
  · cases hv
theorem cp_X3_18i {a : Nat} {v : Option Nat} (hdg : decode cc pc = .ok (.putfield 18, 3)) (S : CallFix p m c cc nL s args lw_all RX3) (hE : gEnv E s) (hG : gC E G H) (hS : va_S (gx_C E) s.heap H locs) (hC0 : gC E Gz s.heap) (hnm : meth.name = "<init>") (hv : cPutR G [11] a 9 v = some G1) (kk : ∀ (H1 : Heap) (locs1 : List Loc), gC E G1 H1 → va_S (gx_C E) s.heap H1 locs1 → WC E p l e R s m args below meth c H1 locs1 Q (F0 m (pc + 3) ls rest)) : WC E p l e R s m args below meth c H locs Q (F0 m pc ls (va_rf v :: .ref a :: rest)) := by
  unfold cPutR at hv
  split at hv
  · next ht =>
    cases hv
    have ht := List.mem_singleton.mp ht
    exact c_putv (ci := 10) (k := 9) (v := va_rf v) (G' := cSetR G a 9 v) hdg (Or.inl q637) rfl in_X3 tyX3_ok nmX3 (by decide) (Or.inl rfl) (by decide) (Or.inr ⟨hnm, rfl, q637⟩) (tyX3_ok 9 (by decide)) (c_narR v (Or.inl ⟨_, rfl⟩)).1 (c_narR v (Or.inl ⟨_, rfl⟩)).2 S hE hG hS ht (by decide) rfl rfl rfl rfl rfl rfl c_othR (c_hvR (fun _ _ _ => rfl)) hC0.2.2.2.2.2 kk
  · cases hv
theorem cg_X3_24 {a : Nat} {v : Nat} (hdg : decode cc pc = .ok (.getfield 24, 3)) (S : CallFix p m c cc nL s args lw_all RX3) (hE : gEnv E s) (hG : gC E G H) (hv : cGetR G [11] a 10 = some v) (kk : W p l e R s m args below meth c H locs cells slots Q (F0 m (pc + 3) ls (.ref v :: rest))) : W p l e R s m args below meth c H locs cells slots Q (F0 m pc ls (.ref a :: rest)) := by
  unfold cGetR at hv
  split at hv
  · next ht =>
    have ht := List.mem_singleton.mp ht
    exact c_getv (ci := 10) (k := 10) hdg (Or.inl q638) rfl in_X3 (by decide) (by decide) (Or.inl rfl) (by show va_rf (cR G a 10) = _; rw [hv]; rfl) S hE hG ht kk
  · cases hv
theorem cp_X3_24i {a : Nat} {v : Option Nat} (hdg : decode cc pc = .ok (.putfield 24, 3)) (S : CallFix p m c cc nL s args lw_all RX3) (hE : gEnv E s) (hG : gC E G H) (hS : va_S (gx_C E) s.heap H locs) (hC0 : gC E Gz s.heap) (hnm : meth.name = "<init>") (hv : cPutR G [11] a 10 v = some G1) (kk : ∀ (H1 : Heap) (locs1 : List Loc), gC E G1 H1 → va_S (gx_C E) s.heap H1 locs1 → WC E p l e R s m args below meth c H1 locs1 Q (F0 m (pc + 3) ls rest)) : WC E p l e R s m args below meth c H locs Q (F0 m pc ls (va_rf v :: .ref a :: rest)) := by
  unfold cPutR at hv
  split at hv
  · next ht =>
    cases hv
    have ht := List.mem_singleton.mp ht
    exact c_putv (ci := 10) (k := 10) (v := va_rf v) (G' := cSetR G a 10 v) hdg (Or.inl q638) rfl in_X3 tyX3_ok nmX3 (by decide) (Or.inl rfl) (by decide) (Or.inr ⟨hnm, rfl, q638⟩) (tyX3_ok 10 (by decide)) (c_narR v (Or.inl ⟨_, rfl⟩)).1 (c_narR v (Or.inl ⟨_, rfl⟩)).2 S hE hG hS ht (by decide) rfl rfl rfl rfl rfl rfl c_othR (c_hvR (fun _ _ _ => rfl)) hC0.2.2.2.2.2 kk
  · cases hv
theorem cg_X3_27 {a : Nat} {v : Nat} (hdg : decode cc pc = .ok (.getfield 27, 3)) (S : CallFix p m c cc nL s args lw_all RX3) (hE : gEnv E s) (hG : gC E G H) (hv : cGetR G [11] a 11 = some v) (kk : W p l e R s m args below meth c H locs cells slots Q (F0 m (pc + 3) ls (.ref v :: rest))) : W p l e R s m args below meth c H locs cells slots Q (F0 m pc ls (.ref a :: rest)) := by
  unfold cGetR at hv
  split at hv
  · next ht =>
    have ht := List.mem_singleton.mp ht
    exact c_getv (ci := 10) (k := 11) hdg (Or.inl q640) rfl in_X3 (by decide) (by decide) (Or.inl rfl) (by show va_rf (cR G a 11) = _; rw [hv]; rfl) S hE hG ht kk
  · cases hv
theorem cp_X3_27i {a : Nat} {v : Option Nat} (hdg : decode cc pc = .ok (.putfield 27, 3)) (S : CallFix p m c cc nL s args lw_all RX3) (hE : gEnv E s) (hG : gC E G H) (hS : va_S (gx_C E) s.heap H locs) (hC0 : gC E Gz s.heap) (hnm : meth.name = "<init>") (hv : cPutR G [11] a 11 v = some G1) (kk : ∀ (H1 : Heap) (locs1 : List Loc), gC E G1 H1 → va_S (gx_C E) s.heap H1 locs1 → WC E p l e R s m args below meth c H1 locs1 Q (F0 m (pc + 3) ls rest)) : WC E p l e R s m args below meth c H locs Q (F0 m pc ls (va_rf v :: .ref a :: rest)) := by
  unfold cPutR at hv
  split at hv
  · next ht =>
    cases hv
    have ht := List.mem_singleton.mp ht
    exact c_putv (ci := 10) (k := 11) (v := va_rf v) (G' := cSetR G a 11 v) hdg (Or.inl q640) rfl in_X3 tyX3_ok nmX3 (by decide) (Or.inl rfl) (by decide) (Or.inr ⟨hnm, rfl, q640⟩) (tyX3_ok 11 (by decide)) (c_narR v (Or.inr ⟨_, rfl⟩)).1 (c_narR v (Or.inr ⟨_, rfl⟩)).2 S hE hG hS ht (by decide) rfl rfl rfl rfl rfl rfl c_othR (c_hvR (fun _ _ _ => rfl)) hC0.2.2.2.2.2 kk
  · cases hv
theorem cp_X3_31 {a : Nat} {v : Int32} (hdg : decode cc pc = .ok (.putfield 31, 3)) (S : CallFix p m c cc nL s args lw_all RX3) (hE : gEnv E s) (hG : gC E G H) (hS : va_S (gx_C E) s.heap H locs) (hC0 : gC E Gz s.heap) (hv : cPutI G [11] a 14 v = some G1) (kk : ∀ (H1 : Heap) (locs1 : List Loc), gC E G1 H1 → va_S (gx_C E) s.heap H1 locs1 → WC E p l e R s m args below meth c H1 locs1 Q (F0 m (pc + 3) ls rest)) : WC E p l e R s m args below meth c H locs Q (F0 m pc ls (.int v :: .ref a :: rest)) := by
  unfold cPutI at hv
  split at hv
  · next ht =>
    cases hv
    have ht := List.mem_singleton.mp ht
    exact c_putv (ci := 10) (k := 14) (v := .int v) (G' := cSetI G a 14 v) hdg (Or.inl q646) rfl in_X3 tyX3_ok nmX3 (by decide) (Or.inl rfl) (by decide) (Or.inl rfl) (tyX3_ok 14 (by decide)) rfl rfl S hE hG hS ht (by decide) rfl rfl rfl rfl rfl rfl c_othI (c_hvI (fun _ _ _ => rfl)) hC0.2.2.2.2.2 kk
  · cases hv
theorem cp_X3_31i {a : Nat} {v : Int32} (hdg : decode cc pc = .ok (.putfield 31, 3)) (S : CallFix p m c cc nL s args lw_all RX3) (hE : gEnv E s) (hG : gC E G H) (hS : va_S (gx_C E) s.heap H locs) (hC0 : gC E Gz s.heap) (hnm : meth.name = "<init>") (hv : cPutI G [11] a 14 v = some G1) (kk : ∀ (H1 : Heap) (locs1 : List Loc), gC E G1 H1 → va_S (gx_C E) s.heap H1 locs1 → WC E p l e R s m args below meth c H1 locs1 Q (F0 m (pc + 3) ls rest)) : WC E p l e R s m args below meth c H locs Q (F0 m pc ls (.int v :: .ref a :: rest)) := by
  unfold cPutI at hv
  split at hv
  · next ht =>
    cases hv
    have ht := List.mem_singleton.mp ht
    exact c_putv (ci := 10) (k := 14) (v := .int v) (G' := cSetI G a 14 v) hdg (Or.inl q646) rfl in_X3 tyX3_ok nmX3 (by decide) (Or.inl rfl) (by decide) (Or.inr ⟨hnm, rfl, q646⟩) (tyX3_ok 14 (by decide)) rfl rfl S hE hG hS ht (by decide) rfl rfl rfl rfl rfl rfl c_othI (c_hvI (fun _ _ _ => rfl)) hC0.2.2.2.2.2 kk
  · cases hv
theorem cg_X3_35 {a : Nat} {v : Nat} (hdg : decode cc pc = .ok (.getfield 35, 3)) (S : CallFix p m c cc nL s args lw_all RX3) (hE : gEnv E s) (hG : gC E G H) (hv : cGetR G [11] a 0 = some v) (kk : W p l e R s m args below meth c H locs cells slots Q (F0 m (pc + 3) ls (.ref v :: rest))) : W p l e R s m args below meth c H locs cells slots Q (F0 m pc ls (.ref a :: rest)) := by
  unfold cGetR at hv
  split at hv
  · next ht =>
    have ht := List.mem_singleton.mp ht
    exact c_getv (ci := 10) (k := 0) hdg (Or.inl q628) rfl in_X3 (by decide) (by decide) (Or.inl rfl) (by show va_rf (cR G a 0) = _; rw [hv]; rfl) S hE hG ht kk
  · cases hv
theorem cp_X3_35i {a : Nat} {v : Option Nat} (hdg : decode cc pc = .ok (.putfield 35, 3)) (S : CallFix p m c cc nL s args lw_all RX3) (hE : gEnv E s) (hG : gC E G H) (hS : va_S (gx_C E) s.heap H locs) (hC0 : gC E Gz s.heap) (hnm : meth.name = "<init>") (hv : cPutR G [11] a 0 v = some G1) (kk : ∀ (H1 : Heap) (locs1 : List Loc), gC E G1 H1 → va_S (gx_C E) s.heap H1 locs1 → WC E p l e R s m args below meth c H1 locs1 Q (F0 m (pc + 3) ls rest)) : WC E p l e R s m args below meth c H locs Q (F0 m pc ls (va_rf v :: .ref a :: rest)) := by
  unfold cPutR at hv
  split at hv
  · next ht =>
    cases hv
    have ht := List.mem_singleton.mp ht
    exact c_putv (ci := 10) (k := 0) (v := va_rf v) (G' := cSetR G a 0 v) hdg (Or.inl q628) rfl in_X3 tyX3_ok nmX3 (by decide) (Or.inl rfl) (by decide) (Or.inr ⟨hnm, rfl, q628⟩) (tyX3_ok 0 (by decide)) (c_narR v (Or.inr ⟨_, rfl⟩)).1 (c_narR v (Or.inr ⟨_, rfl⟩)).2 S hE hG hS ht (by decide) rfl rfl rfl rfl rfl rfl c_othR (c_hvR (fun _ _ _ => rfl)) hC0.2.2.2.2.2 kk
  · cases hv
theorem cg_X3_39 {a : Nat} {v : Int32} (hdg : decode cc pc = .ok (.getfield 39, 3)) (S : CallFix p m c cc nL s args lw_all RX3) (hE : gEnv E s) (hG : gC E G H) (hv : cGetI G [11] a 1 = some v) (kk : W p l e R s m args below meth c H locs cells slots Q (F0 m (pc + 3) ls (.int v :: rest))) : W p l e R s m args below meth c H locs cells slots Q (F0 m pc ls (.ref a :: rest)) := by
  unfold cGetI at hv
  split at hv
  · next ht =>
    cases hv
    have ht := List.mem_singleton.mp ht
    exact c_getv (ci := 10) (k := 1) hdg (Or.inl q629) rfl in_X3 (by decide) (by decide) (Or.inl rfl) rfl S hE hG ht kk
  · cases hv
theorem cp_X3_39i {a : Nat} {v : Int32} (hdg : decode cc pc = .ok (.putfield 39, 3)) (S : CallFix p m c cc nL s args lw_all RX3) (hE : gEnv E s) (hG : gC E G H) (hS : va_S (gx_C E) s.heap H locs) (hC0 : gC E Gz s.heap) (hnm : meth.name = "<init>") (hv : cPutI G [11] a 1 v = some G1) (kk : ∀ (H1 : Heap) (locs1 : List Loc), gC E G1 H1 → va_S (gx_C E) s.heap H1 locs1 → WC E p l e R s m args below meth c H1 locs1 Q (F0 m (pc + 3) ls rest)) : WC E p l e R s m args below meth c H locs Q (F0 m pc ls (.int v :: .ref a :: rest)) := by
  unfold cPutI at hv
  split at hv
  · next ht =>
    cases hv
    have ht := List.mem_singleton.mp ht
    exact c_putv (ci := 10) (k := 1) (v := .int v) (G' := cSetI G a 1 v) hdg (Or.inl q629) rfl in_X3 tyX3_ok nmX3 (by decide) (Or.inl rfl) (by decide) (Or.inr ⟨hnm, rfl, q629⟩) (tyX3_ok 1 (by decide)) rfl rfl S hE hG hS ht (by decide) rfl rfl rfl rfl rfl rfl c_othI (c_hvI (fun _ _ _ => rfl)) hC0.2.2.2.2.2 kk
  · cases hv
theorem cg_X3_42 {a : Nat} {v : Int32} (hdg : decode cc pc = .ok (.getfield 42, 3)) (S : CallFix p m c cc nL s args lw_all RX3) (hE : gEnv E s) (hG : gC E G H) (hv : cGetI G [11] a 2 = some v) (kk : W p l e R s m args below meth c H locs cells slots Q (F0 m (pc + 3) ls (.int v :: rest))) : W p l e R s m args below meth c H locs cells slots Q (F0 m pc ls (.ref a :: rest)) := by
  unfold cGetI at hv
  split at hv
  · next ht =>
    cases hv
    have ht := List.mem_singleton.mp ht
    exact c_getv (ci := 10) (k := 2) hdg (Or.inl q630) rfl in_X3 (by decide) (by decide) (Or.inl rfl) rfl S hE hG ht kk
  · cases hv
theorem cp_X3_42 {a : Nat} {v : Int32} (hdg : decode cc pc = .ok (.putfield 42, 3)) (S : CallFix p m c cc nL s args lw_all RX3) (hE : gEnv E s) (hG : gC E G H) (hS : va_S (gx_C E) s.heap H locs) (hC0 : gC E Gz s.heap) (hv : cPutI G [11] a 2 v = some G1) (kk : ∀ (H1 : Heap) (locs1 : List Loc), gC E G1 H1 → va_S (gx_C E) s.heap H1 locs1 → WC E p l e R s m args below meth c H1 locs1 Q (F0 m (pc + 3) ls rest)) : WC E p l e R s m args below meth c H locs Q (F0 m pc ls (.int v :: .ref a :: rest)) := by
  unfold cPutI at hv
  split at hv
  · next ht =>
    cases hv
    have ht := List.mem_singleton.mp ht
    exact c_putv (ci := 10) (k := 2) (v := .int v) (G' := cSetI G a 2 v) hdg (Or.inl q630) rfl in_X3 tyX3_ok nmX3 (by decide) (Or.inl rfl) (by decide) (Or.inl rfl) (tyX3_ok 2 (by decide)) rfl rfl S hE hG hS ht (by decide) rfl rfl rfl rfl rfl rfl c_othI (c_hvI (fun _ _ _ => rfl)) hC0.2.2.2.2.2 kk
  · cases hv
theorem cg_X3_45 {a : Nat} {v : Int32} (hdg : decode cc pc = .ok (.getfield 45, 3)) (S : CallFix p m c cc nL s args lw_all RX3) (hE : gEnv E s) (hG : gC E G H) (hv : cGetI G [11] a 3 = some v) (kk : W p l e R s m args below meth c H locs cells slots Q (F0 m (pc + 3) ls (.int v :: rest))) : W p l e R s m args below meth c H locs cells slots Q (F0 m pc ls (.ref a :: rest)) := by
  unfold cGetI at hv
  split at hv
  · next ht =>
    cases hv
    have ht := List.mem_singleton.mp ht
    exact c_getv (ci := 10) (k := 3) hdg (Or.inl q631) rfl in_X3 (by decide) (by decide) (Or.inl rfl) rfl S hE hG ht kk
  · cases hv
theorem cp_X3_45 {a : Nat} {v : Int32} (hdg : decode cc pc = .ok (.putfield 45, 3)) (S : CallFix p m c cc nL s args lw_all RX3) (hE : gEnv E s) (hG : gC E G H) (hS : va_S (gx_C E) s.heap H locs) (hC0 : gC E Gz s.heap) (hv : cPutI G [11] a 3 v = some G1) (kk : ∀ (H1 : Heap) (locs1 : List Loc), gC E G1 H1 → va_S (gx_C E) s.heap H1 locs1 → WC E p l e R s m args below meth c H1 locs1 Q (F0 m (pc + 3) ls rest)) : WC E p l e R s m args below meth c H locs Q (F0 m pc ls (.int v :: .ref a :: rest)) := by
  unfold cPutI at hv
  split at hv
  · next ht =>
    cases hv
    have ht := List.mem_singleton.mp ht
    exact c_putv (ci := 10) (k := 3) (v := .int v) (G' := cSetI G a 3 v) hdg (Or.inl q631) rfl in_X3 tyX3_ok nmX3 (by decide) (Or.inl rfl) (by decide) (Or.inl rfl) (tyX3_ok 3 (by decide)) rfl rfl S hE hG hS ht (by decide) rfl rfl rfl rfl rfl rfl c_othI (c_hvI (fun _ _ _ => rfl)) hC0.2.2.2.2.2 kk
  · cases hv
theorem cg_X3_58 {a : Nat} {v : Nat} (hdg : decode cc pc = .ok (.getfield 58, 3)) (S : CallFix p m c cc nL s args lw_all RX3) (hE : gEnv E s) (hG : gC E G H) (hv : cGetR G [11] a 7 = some v) (kk : W p l e R s m args below meth c H locs cells slots Q (F0 m (pc + 3) ls (.ref v :: rest))) : W p l e R s m args below meth c H locs cells slots Q (F0 m pc ls (.ref a :: rest)) := by
  unfold cGetR at hv
  split at hv
  · next ht =>
    have ht := List.mem_singleton.mp ht
    exact c_getv (ci := 10) (k := 7) hdg (Or.inl q635) rfl in_X3 (by decide) (by decide) (Or.inl rfl) (by show va_rf (cR G a 7) = _; rw [hv]; rfl) S hE hG ht kk
  · cases hv
theorem cp_X3_58 {a : Nat} {v : Option Nat} (hdg : decode cc pc = .ok (.putfield 58, 3)) (S : CallFix p m c cc nL s args lw_all RX3) (hE : gEnv E s) (hG : gC E G H) (hS : va_S (gx_C E) s.heap H locs) (hC0 : gC E Gz s.heap) (hv : cPutR G [11] a 7 v = some G1) (kk : ∀ (H1 : Heap) (locs1 : List Loc), gC E G1 H1 → va_S (gx_C E) s.heap H1 locs1 → WC E p l e R s m args below meth c H1 locs1 Q (F0 m (pc + 3) ls rest)) : WC E p l e R s m args below meth c H locs Q (F0 m pc ls (va_rf v :: .ref a :: rest)) := by
  unfold cPutR at hv
  split at hv
  · next ht =>
    cases hv
    have ht := List.mem_singleton.mp ht
    exact c_putv (ci := 10) (k := 7) (v := va_rf v) (G' := cSetR G a 7 v) hdg (Or.inl q635) rfl in_X3 tyX3_ok nmX3 (by decide) (Or.inl rfl) (by decide) (Or.inl rfl) (tyX3_ok 7 (by decide)) (c_narR v (Or.inl ⟨_, rfl⟩)).1 (c_narR v (Or.inl ⟨_, rfl⟩)).2 S hE hG hS ht (by decide) rfl rfl rfl rfl rfl rfl c_othR (c_hvR (fun _ _ _ => rfl)) hC0.2.2.2.2.2 kk
  · cases hv
theorem cg_X3_77 {a : Nat} {v : Int64} (hdg : decode cc pc = .ok (.getfield 77, 3)) (S : CallFix p m c cc nL s args lw_all RX3) (hE : gEnv E s) (hG : gC E G H) (hv : cGetJ G [11] a 6 = some v) (kk : W p l e R s m args below meth c H locs cells slots Q (F0 m (pc + 3) ls (.long v :: rest))) : W p l e R s m args below meth c H locs cells slots Q (F0 m pc ls (.ref a :: rest)) := by
  unfold cGetJ at hv
  split at hv
  · next ht =>
    cases hv
    have ht := List.mem_singleton.mp ht
    exact c_getv (ci := 10) (k := 6) hdg (Or.inl q634) rfl in_X3 (by decide) (by decide) (Or.inl rfl) rfl S hE hG ht kk
  · cases hv
theorem cp_X3_77 {a : Nat} {v : Int64} (hdg : decode cc pc = .ok (.putfield 77, 3)) (S : CallFix p m c cc nL s args lw_all RX3) (hE : gEnv E s) (hG : gC E G H) (hS : va_S (gx_C E) s.heap H locs) (hC0 : gC E Gz s.heap) (hv : cPutJ G [11] a 6 v = some G1) (kk : ∀ (H1 : Heap) (locs1 : List Loc), gC E G1 H1 → va_S (gx_C E) s.heap H1 locs1 → WC E p l e R s m args below meth c H1 locs1 Q (F0 m (pc + 3) ls rest)) : WC E p l e R s m args below meth c H locs Q (F0 m pc ls (.long v :: .ref a :: rest)) := by
  unfold cPutJ at hv
  split at hv
  · next ht =>
    cases hv
    have ht := List.mem_singleton.mp ht
    exact c_putv (ci := 10) (k := 6) (v := .long v) (G' := cSetJ G a 6 v) hdg (Or.inl q634) rfl in_X3 tyX3_ok nmX3 (by decide) (Or.inl rfl) (by decide) (Or.inl rfl) (tyX3_ok 6 (by decide)) rfl rfl S hE hG hS ht (by decide) rfl rfl rfl rfl rfl rfl c_othJ (c_hvJ (fun _ _ _ => rfl)) hC0.2.2.2.2.2 kk
  · cases hv
theorem cg_X3_87 {a : Nat} {v : Int32} (hdg : decode cc pc = .ok (.getfield 87, 3)) (S : CallFix p m c cc nL s args lw_all RX3) (hE : gEnv E s) (hG : gC E G H) (hv : cGetI G [11] a 4 = some v) (kk : W p l e R s m args below meth c H locs cells slots Q (F0 m (pc + 3) ls (.int v :: rest))) : W p l e R s m args below meth c H locs cells slots Q (F0 m pc ls (.ref a :: rest)) := by
  unfold cGetI at hv
  split at hv
  · next ht =>
    cases hv
    have ht := List.mem_singleton.mp ht
    exact c_getv (ci := 10) (k := 4) hdg (Or.inl q632) rfl in_X3 (by decide) (by decide) (Or.inl rfl) rfl S hE hG ht kk
  · cases hv
theorem cp_X3_87 {a : Nat} {v : Int32} (hdg : decode cc pc = .ok (.putfield 87, 3)) (S : CallFix p m c cc nL s args lw_all RX3) (hE : gEnv E s) (hG : gC E G H) (hS : va_S (gx_C E) s.heap H locs) (hC0 : gC E Gz s.heap) (hv : cPutI G [11] a 4 v = some G1) (kk : ∀ (H1 : Heap) (locs1 : List Loc), gC E G1 H1 → va_S (gx_C E) s.heap H1 locs1 → WC E p l e R s m args below meth c H1 locs1 Q (F0 m (pc + 3) ls rest)) : WC E p l e R s m args below meth c H locs Q (F0 m pc ls (.int v :: .ref a :: rest)) := by
  unfold cPutI at hv
  split at hv
  · next ht =>
    cases hv
    have ht := List.mem_singleton.mp ht
    exact c_putv (ci := 10) (k := 4) (v := .int v) (G' := cSetI G a 4 v) hdg (Or.inl q632) rfl in_X3 tyX3_ok nmX3 (by decide) (Or.inl rfl) (by decide) (Or.inl rfl) (tyX3_ok 4 (by decide)) rfl rfl S hE hG hS ht (by decide) rfl rfl rfl rfl rfl rfl c_othI (c_hvI (fun _ _ _ => rfl)) hC0.2.2.2.2.2 kk
  · cases hv
theorem cg_X3_96 {a : Nat} {v : Int32} (hdg : decode cc pc = .ok (.getfield 96, 3)) (S : CallFix p m c cc nL s args lw_all RX3) (hE : gEnv E s) (hG : gC E G H) (hv : cGetI G [11] a 5 = some v) (kk : W p l e R s m args below meth c H locs cells slots Q (F0 m (pc + 3) ls (.int v :: rest))) : W p l e R s m args below meth c H locs cells slots Q (F0 m pc ls (.ref a :: rest)) := by
  unfold cGetI at hv
  split at hv
  · next ht =>
    cases hv
    have ht := List.mem_singleton.mp ht
    exact c_getv (ci := 10) (k := 5) hdg (Or.inl q633) rfl in_X3 (by decide) (by decide) (Or.inl rfl) rfl S hE hG ht kk
  · cases hv
theorem cp_X3_96 {a : Nat} {v : Int32} (hdg : decode cc pc = .ok (.putfield 96, 3)) (S : CallFix p m c cc nL s args lw_all RX3) (hE : gEnv E s) (hG : gC E G H) (hS : va_S (gx_C E) s.heap H locs) (hC0 : gC E Gz s.heap) (hv : cPutI G [11] a 5 v = some G1) (kk : ∀ (H1 : Heap) (locs1 : List Loc), gC E G1 H1 → va_S (gx_C E) s.heap H1 locs1 → WC E p l e R s m args below meth c H1 locs1 Q (F0 m (pc + 3) ls rest)) : WC E p l e R s m args below meth c H locs Q (F0 m pc ls (.int v :: .ref a :: rest)) := by
  unfold cPutI at hv
  split at hv
  · next ht =>
    cases hv
    have ht := List.mem_singleton.mp ht
    exact c_putv (ci := 10) (k := 5) (v := .int v) (G' := cSetI G a 5 v) hdg (Or.inl q633) rfl in_X3 tyX3_ok nmX3 (by decide) (Or.inl rfl) (by decide) (Or.inl rfl) (tyX3_ok 5 (by decide)) rfl rfl S hE hG hS ht (by decide) rfl rfl rfl rfl rfl rfl c_othI (c_hvI (fun _ _ _ => rfl)) hC0.2.2.2.2.2 kk
  · cases hv
theorem cg_X3_163 {a : Nat} {v : Int32} (hdg : decode cc pc = .ok (.getfield 163, 3)) (S : CallFix p m c cc nL s args lw_all RX3) (hE : gEnv E s) (hG : gC E G H) (hv : cGetI G [11] a 15 = some v) (kk : W p l e R s m args below meth c H locs cells slots Q (F0 m (pc + 3) ls (.int v :: rest))) : W p l e R s m args below meth c H locs cells slots Q (F0 m pc ls (.ref a :: rest)) := by
  unfold cGetI at hv
  split at hv
  · next ht =>
    cases hv
    have ht := List.mem_singleton.mp ht
    exact c_getv (ci := 10) (k := 15) hdg (Or.inl q648) rfl in_X3 (by decide) (by decide) (Or.inl rfl) rfl S hE hG ht kk
  · cases hv
theorem cp_X3_163 {a : Nat} {v : Int32} (hdg : decode cc pc = .ok (.putfield 163, 3)) (S : CallFix p m c cc nL s args lw_all RX3) (hE : gEnv E s) (hG : gC E G H) (hS : va_S (gx_C E) s.heap H locs) (hC0 : gC E Gz s.heap) (hv : cPutZ G [11] a 15 v = some G1) (kk : ∀ (H1 : Heap) (locs1 : List Loc), gC E G1 H1 → va_S (gx_C E) s.heap H1 locs1 → WC E p l e R s m args below meth c H1 locs1 Q (F0 m (pc + 3) ls rest)) : WC E p l e R s m args below meth c H locs Q (F0 m pc ls (.int v :: .ref a :: rest)) := by
  unfold cPutZ at hv
  split at hv
  · next ht =>
    obtain ⟨ht, h01⟩ := ht
    cases hv
    have ht := List.mem_singleton.mp ht
    exact c_putv (ci := 10) (k := 15) (v := .int v) (G' := cSetI G a 15 v) hdg (Or.inl q648) rfl in_X3 tyX3_ok nmX3 (by decide) (Or.inl rfl) (by decide) (Or.inl rfl) (tyX3_ok 15 (by decide)) (by rcases h01 with rfl | rfl <;> decide) (by rcases h01 with rfl | rfl <;> decide) S hE hG hS ht (by decide) rfl rfl rfl rfl rfl rfl c_othI (c_hvI (fun _ _ _ => rfl)) hC0.2.2.2.2.2 kk
  · cases hv
theorem cg_X3_175 {a : Nat} {v : Int32} (hdg : decode cc pc = .ok (.getfield 175, 3)) (S : CallFix p m c cc nL s args lw_all RX3) (hE : gEnv E s) (hG : gC E G H) (hv : cGetI G [11] a 12 = some v) (kk : W p l e R s m args below meth c H locs cells slots Q (F0 m (pc + 3) ls (.int v :: rest))) : W p l e R s m args below meth c H locs cells slots Q (F0 m pc ls (.ref a :: rest)) := by
  unfold cGetI at hv
  split at hv
  · next ht =>
    cases hv
    have ht := List.mem_singleton.mp ht
    exact c_getv (ci := 10) (k := 12) hdg (Or.inl q643) rfl in_X3 (by decide) (by decide) (Or.inl rfl) rfl S hE hG ht kk
  · cases hv
theorem cp_X3_175 {a : Nat} {v : Int32} (hdg : decode cc pc = .ok (.putfield 175, 3)) (S : CallFix p m c cc nL s args lw_all RX3) (hE : gEnv E s) (hG : gC E G H) (hS : va_S (gx_C E) s.heap H locs) (hC0 : gC E Gz s.heap) (hv : cPutI G [11] a 12 v = some G1) (kk : ∀ (H1 : Heap) (locs1 : List Loc), gC E G1 H1 → va_S (gx_C E) s.heap H1 locs1 → WC E p l e R s m args below meth c H1 locs1 Q (F0 m (pc + 3) ls rest)) : WC E p l e R s m args below meth c H locs Q (F0 m pc ls (.int v :: .ref a :: rest)) := by
  unfold cPutI at hv
  split at hv
  · next ht =>
    cases hv
    have ht := List.mem_singleton.mp ht
    exact c_putv (ci := 10) (k := 12) (v := .int v) (G' := cSetI G a 12 v) hdg (Or.inl q643) rfl in_X3 tyX3_ok nmX3 (by decide) (Or.inl rfl) (by decide) (Or.inl rfl) (tyX3_ok 12 (by decide)) rfl rfl S hE hG hS ht (by decide) rfl rfl rfl rfl rfl rfl c_othI (c_hvI (fun _ _ _ => rfl)) hC0.2.2.2.2.2 kk
  · cases hv
theorem cg_X3_183 {a : Nat} {v : Int32} (hdg : decode cc pc = .ok (.getfield 183, 3)) (S : CallFix p m c cc nL s args lw_all RX3) (hE : gEnv E s) (hG : gC E G H) (hv : cGetI G [11] a 13 = some v) (kk : W p l e R s m args below meth c H locs cells slots Q (F0 m (pc + 3) ls (.int v :: rest))) : W p l e R s m args below meth c H locs cells slots Q (F0 m pc ls (.ref a :: rest)) := by
  unfold cGetI at hv
  split at hv
  · next ht =>
    cases hv
    have ht := List.mem_singleton.mp ht
    exact c_getv (ci := 10) (k := 13) hdg (Or.inl q645) rfl in_X3 (by decide) (by decide) (Or.inl rfl) rfl S hE hG ht kk
  · cases hv
theorem cp_X3_183 {a : Nat} {v : Int32} (hdg : decode cc pc = .ok (.putfield 183, 3)) (S : CallFix p m c cc nL s args lw_all RX3) (hE : gEnv E s) (hG : gC E G H) (hS : va_S (gx_C E) s.heap H locs) (hC0 : gC E Gz s.heap) (hv : cPutI G [11] a 13 v = some G1) (kk : ∀ (H1 : Heap) (locs1 : List Loc), gC E G1 H1 → va_S (gx_C E) s.heap H1 locs1 → WC E p l e R s m args below meth c H1 locs1 Q (F0 m (pc + 3) ls rest)) : WC E p l e R s m args below meth c H locs Q (F0 m pc ls (.int v :: .ref a :: rest)) := by
  unfold cPutI at hv
  split at hv
  · next ht =>
    cases hv
    have ht := List.mem_singleton.mp ht
    exact c_putv (ci := 10) (k := 13) (v := .int v) (G' := cSetI G a 13 v) hdg (Or.inl q645) rfl in_X3 tyX3_ok nmX3 (by decide) (Or.inl rfl) (by decide) (Or.inl rfl) (tyX3_ok 13 (by decide)) rfl rfl S hE hG hS ht (by decide) rfl rfl rfl rfl rfl rfl c_othI (c_hvI (fun _ _ _ => rfl)) hC0.2.2.2.2.2 kk
  · cases hv
theorem cg_X3_192 {a : Nat} {v : Int64} (hdg : decode cc pc = .ok (.getfield 192, 3)) (S : CallFix p m c cc nL s args lw_all RX3) (hE : gEnv E s) (hG : gC E G H) (hv : cGetJ G [32] a 2 = some v) (kk : W p l e R s m args below meth c H locs cells slots Q (F0 m (pc + 3) ls (.long v :: rest))) : W p l e R s m args below meth c H locs cells slots Q (F0 m pc ls (.ref a :: rest)) := by
  unfold cGetJ at hv
  split at hv
  · next ht =>
    cases hv
    have ht := List.mem_singleton.mp ht
    exact c_getv (ci := 31) (k := 2) hdg (Or.inr ⟨_, lw_nw q1571 rfl⟩) rfl in_X26 (by decide) (by decide) (Or.inl rfl) rfl S hE hG ht kk
  · cases hv
theorem cg_X3_195 {a : Nat} {v : Int32} (hdg : decode cc pc = .ok (.getfield 195, 3)) (S : CallFix p m c cc nL s args lw_all RX3) (hE : gEnv E s) (hG : gC E G H) (hv : cGetI G [32] a 1 = some v) (kk : W p l e R s m args below meth c H locs cells slots Q (F0 m (pc + 3) ls (.int v :: rest))) : W p l e R s m args below meth c H locs cells slots Q (F0 m pc ls (.ref a :: rest)) := by
  unfold cGetI at hv
  split at hv
  · next ht =>
    cases hv
    have ht := List.mem_singleton.mp ht
    exact c_getv (ci := 31) (k := 1) hdg (Or.inr ⟨_, lw_nw q1569 rfl⟩) rfl in_X26 (by decide) (by decide) (Or.inl rfl) rfl S hE hG ht kk
  · cases hv
theorem cp_X3_199 {a : Nat} {v : Option Nat} (hdg : decode cc pc = .ok (.putfield 199, 3)) (S : CallFix p m c cc nL s args lw_all RX3) (hE : gEnv E s) (hG : gC E G H) (hS : va_S (gx_C E) s.heap H locs) (hC0 : gC E Gz s.heap) (hv : cPutR G [32] a 3 v = some G1) (kk : ∀ (H1 : Heap) (locs1 : List Loc), gC E G1 H1 → va_S (gx_C E) s.heap H1 locs1 → WC E p l e R s m args below meth c H1 locs1 Q (F0 m (pc + 3) ls rest)) : WC E p l e R s m args below meth c H locs Q (F0 m pc ls (va_rf v :: .ref a :: rest)) := by
  unfold cPutR at hv
  split at hv
  · next ht =>
    cases hv
    have ht := List.mem_singleton.mp ht
    exact c_putv (ci := 31) (k := 3) (v := va_rf v) (G' := cSetR G a 3 v) hdg (Or.inr ⟨_, lw_nw q1573 rfl⟩) rfl in_X26 tyX26_ok nmX26 (by decide) (Or.inl rfl) (by decide) (Or.inl rfl) (tyX26_ok 3 (by decide)) (c_narR v (Or.inl ⟨_, rfl⟩)).1 (c_narR v (Or.inl ⟨_, rfl⟩)).2 S hE hG hS ht (by decide) rfl rfl rfl rfl rfl rfl c_othR (c_hvR (fun _ _ _ => rfl)) hC0.2.2.2.2.2 kk
  · cases hv
theorem cg_X3_216 {a : Nat} {v : Nat} (hdg : decode cc pc = .ok (.getfield 216, 3)) (S : CallFix p m c cc nL s args lw_all RX3) (hE : gEnv E s) (hG : gC E G H) (hv : cGetR G [11] a 16 = some v) (kk : W p l e R s m args below meth c H locs cells slots Q (F0 m (pc + 3) ls (.ref v :: rest))) : W p l e R s m args below meth c H locs cells slots Q (F0 m pc ls (.ref a :: rest)) := by
  unfold cGetR at hv
  split at hv
  · next ht =>
    have ht := List.mem_singleton.mp ht
    exact c_getv (ci := 10) (k := 16) hdg (Or.inl q649) rfl in_X3 (by decide) (by decide) (Or.inl rfl) (by show va_rf (cR G a 16) = _; rw [hv]; rfl) S hE hG ht kk
  · cases hv
theorem cp_X3_216 {a : Nat} {v : Option Nat} (hdg : decode cc pc = .ok (.putfield 216, 3)) (S : CallFix p m c cc nL s args lw_all RX3) (hE : gEnv E s) (hG : gC E G H) (hS : va_S (gx_C E) s.heap H locs) (hC0 : gC E Gz s.heap) (hv : cPutR G [11] a 16 v = some G1) (kk : ∀ (H1 : Heap) (locs1 : List Loc), gC E G1 H1 → va_S (gx_C E) s.heap H1 locs1 → WC E p l e R s m args below meth c H1 locs1 Q (F0 m (pc + 3) ls rest)) : WC E p l e R s m args below meth c H locs Q (F0 m pc ls (va_rf v :: .ref a :: rest)) := by
  unfold cPutR at hv
  split at hv
  · next ht =>
    cases hv
    have ht := List.mem_singleton.mp ht
    exact c_putv (ci := 10) (k := 16) (v := va_rf v) (G' := cSetR G a 16 v) hdg (Or.inl q649) rfl in_X3 tyX3_ok nmX3 (by decide) (Or.inl rfl) (by decide) (Or.inl rfl) (tyX3_ok 16 (by decide)) (c_narR v (Or.inl ⟨_, rfl⟩)).1 (c_narR v (Or.inl ⟨_, rfl⟩)).2 S hE hG hS ht (by decide) rfl rfl rfl rfl rfl rfl c_othR (c_hvR (fun _ _ _ => rfl)) hC0.2.2.2.2.2 kk
  · cases hv
theorem cg_X3_217 {a : Nat} {v : Int32} (hdg : decode cc pc = .ok (.getfield 217, 3)) (S : CallFix p m c cc nL s args lw_all RX3) (hE : gEnv E s) (hG : gC E G H) (hv : cGetI G [11] a 17 = some v) (kk : W p l e R s m args below meth c H locs cells slots Q (F0 m (pc + 3) ls (.int v :: rest))) : W p l e R s m args below meth c H locs cells slots Q (F0 m pc ls (.ref a :: rest)) := by
  unfold cGetI at hv
  split at hv
  · next ht =>
    cases hv
    have ht := List.mem_singleton.mp ht
    exact c_getv (ci := 10) (k := 17) hdg (Or.inl q650) rfl in_X3 (by decide) (by decide) (Or.inl rfl) rfl S hE hG ht kk
  · cases hv
theorem cp_X3_217 {a : Nat} {v : Int32} (hdg : decode cc pc = .ok (.putfield 217, 3)) (S : CallFix p m c cc nL s args lw_all RX3) (hE : gEnv E s) (hG : gC E G H) (hS : va_S (gx_C E) s.heap H locs) (hC0 : gC E Gz s.heap) (hv : cPutI G [11] a 17 v = some G1) (kk : ∀ (H1 : Heap) (locs1 : List Loc), gC E G1 H1 → va_S (gx_C E) s.heap H1 locs1 → WC E p l e R s m args below meth c H1 locs1 Q (F0 m (pc + 3) ls rest)) : WC E p l e R s m args below meth c H locs Q (F0 m pc ls (.int v :: .ref a :: rest)) := by
  unfold cPutI at hv
  split at hv
  · next ht =>
    cases hv
    have ht := List.mem_singleton.mp ht
    exact c_putv (ci := 10) (k := 17) (v := .int v) (G' := cSetI G a 17 v) hdg (Or.inl q650) rfl in_X3 tyX3_ok nmX3 (by decide) (Or.inl rfl) (by decide) (Or.inl rfl) (tyX3_ok 17 (by decide)) rfl rfl S hE hG hS ht (by decide) rfl rfl rfl rfl rfl rfl c_othI (c_hvI (fun _ _ _ => rfl)) hC0.2.2.2.2.2 kk
  · cases hv
theorem cg_X3_220 {a : Nat} {v : Int32} (hdg : decode cc pc = .ok (.getfield 220, 3)) (S : CallFix p m c cc nL s args lw_all RX3) (hE : gEnv E s) (hG : gC E G H) (hv : cGetI G [11] a 18 = some v) (kk : W p l e R s m args below meth c H locs cells slots Q (F0 m (pc + 3) ls (.int v :: rest))) : W p l e R s m args below meth c H locs cells slots Q (F0 m pc ls (.ref a :: rest)) := by
  unfold cGetI at hv
  split at hv
  · next ht =>
    cases hv
    have ht := List.mem_singleton.mp ht
    exact c_getv (ci := 10) (k := 18) hdg (Or.inl q651) rfl in_X3 (by decide) (by decide) (Or.inl rfl) rfl S hE hG ht kk
  · cases hv
theorem cp_X3_220 {a : Nat} {v : Int32} (hdg : decode cc pc = .ok (.putfield 220, 3)) (S : CallFix p m c cc nL s args lw_all RX3) (hE : gEnv E s) (hG : gC E G H) (hS : va_S (gx_C E) s.heap H locs) (hC0 : gC E Gz s.heap) (hv : cPutI G [11] a 18 v = some G1) (kk : ∀ (H1 : Heap) (locs1 : List Loc), gC E G1 H1 → va_S (gx_C E) s.heap H1 locs1 → WC E p l e R s m args below meth c H1 locs1 Q (F0 m (pc + 3) ls rest)) : WC E p l e R s m args below meth c H locs Q (F0 m pc ls (.int v :: .ref a :: rest)) := by
  unfold cPutI at hv
  split at hv
  · next ht =>
    cases hv
    have ht := List.mem_singleton.mp ht
    exact c_putv (ci := 10) (k := 18) (v := .int v) (G' := cSetI G a 18 v) hdg (Or.inl q651) rfl in_X3 tyX3_ok nmX3 (by decide) (Or.inl rfl) (by decide) (Or.inl rfl) (tyX3_ok 18 (by decide)) rfl rfl S hE hG hS ht (by decide) rfl rfl rfl rfl rfl rfl c_othI (c_hvI (fun _ _ _ => rfl)) hC0.2.2.2.2.2 kk
  · cases hv
theorem cg_X3_223 {a : Nat} {v : Int32} (hdg : decode cc pc = .ok (.getfield 223, 3)) (S : CallFix p m c cc nL s args lw_all RX3) (hE : gEnv E s) (hG : gC E G H) (hv : cGetI G [11] a 19 = some v) (kk : W p l e R s m args below meth c H locs cells slots Q (F0 m (pc + 3) ls (.int v :: rest))) : W p l e R s m args below meth c H locs cells slots Q (F0 m pc ls (.ref a :: rest)) := by
  unfold cGetI at hv
  split at hv
  · next ht =>
    cases hv
    have ht := List.mem_singleton.mp ht
    exact c_getv (ci := 10) (k := 19) hdg (Or.inl q652) rfl in_X3 (by decide) (by decide) (Or.inl rfl) rfl S hE hG ht kk
  · cases hv
theorem cp_X3_223 {a : Nat} {v : Int32} (hdg : decode cc pc = .ok (.putfield 223, 3)) (S : CallFix p m c cc nL s args lw_all RX3) (hE : gEnv E s) (hG : gC E G H) (hS : va_S (gx_C E) s.heap H locs) (hC0 : gC E Gz s.heap) (hv : cPutI G [11] a 19 v = some G1) (kk : ∀ (H1 : Heap) (locs1 : List Loc), gC E G1 H1 → va_S (gx_C E) s.heap H1 locs1 → WC E p l e R s m args below meth c H1 locs1 Q (F0 m (pc + 3) ls rest)) : WC E p l e R s m args below meth c H locs Q (F0 m pc ls (.int v :: .ref a :: rest)) := by
  unfold cPutI at hv
  split at hv
  · next ht =>
    cases hv
    have ht := List.mem_singleton.mp ht
    exact c_putv (ci := 10) (k := 19) (v := .int v) (G' := cSetI G a 19 v) hdg (Or.inl q652) rfl in_X3 tyX3_ok nmX3 (by decide) (Or.inl rfl) (by decide) (Or.inl rfl) (tyX3_ok 19 (by decide)) rfl rfl S hE hG hS ht (by decide) rfl rfl rfl rfl rfl rfl c_othI (c_hvI (fun _ _ _ => rfl)) hC0.2.2.2.2.2 kk
  · cases hv
theorem cg_X3_229 {a : Nat} {v : Nat} (hdg : decode cc pc = .ok (.getfield 229, 3)) (S : CallFix p m c cc nL s args lw_all RX3) (hE : gEnv E s) (hG : gC E G H) (hv : cGetR G [14, 18, 20, 21, 23, 25, 26, 27, 28] a 1 = some v) (kk : W p l e R s m args below meth c H locs cells slots Q (F0 m (pc + 3) ls (.ref v :: rest))) : W p l e R s m args below meth c H locs cells slots Q (F0 m pc ls (.ref a :: rest)) := by
  unfold cGetR at hv
  split at hv
  · next ht =>
    simp only [List.mem_cons, List.not_mem_nil, or_false] at ht
    rcases ht with ht | ht | ht | ht | ht | ht | ht | ht | ht
    · exact c_getv (ci := 13) (k := 1) hdg (Or.inl q1140) rfl in_X7 (by decide) (by decide) (Or.inl rfl) (by show va_rf (cR G a 1) = _; rw [hv]; rfl) S hE hG ht kk
    · exact c_getv (ci := 17) (k := 1) hdg (Or.inl q1140) rfl in_X11 (by decide) (by decide) (Or.inl rfl) (by show va_rf (cR G a 1) = _; rw [hv]; rfl) S hE hG ht kk
    · exact c_getv (ci := 19) (k := 1) hdg (Or.inl q1140) rfl in_X13 (by decide) (by decide) (Or.inl rfl) (by show va_rf (cR G a 1) = _; rw [hv]; rfl) S hE hG ht kk
    · exact c_getv (ci := 20) (k := 1) hdg (Or.inl q1140) rfl in_X14 (by decide) (by decide) (Or.inl rfl) (by show va_rf (cR G a 1) = _; rw [hv]; rfl) S hE hG ht kk
    · exact c_getv (ci := 22) (k := 1) hdg (Or.inl q1140) rfl in_X16 (by decide) (by decide) (Or.inl rfl) (by show va_rf (cR G a 1) = _; rw [hv]; rfl) S hE hG ht kk
    · exact c_getv (ci := 24) (k := 1) hdg (Or.inl q1140) rfl in_X18 (by decide) (by decide) (Or.inl rfl) (by show va_rf (cR G a 1) = _; rw [hv]; rfl) S hE hG ht kk
    · exact c_getv (ci := 25) (k := 1) hdg (Or.inl q1140) rfl in_X19 (by decide) (by decide) (Or.inl rfl) (by show va_rf (cR G a 1) = _; rw [hv]; rfl) S hE hG ht kk
    · exact c_getv (ci := 26) (k := 1) hdg (Or.inl q1140) rfl in_X20 (by decide) (by decide) (Or.inl rfl) (by show va_rf (cR G a 1) = _; rw [hv]; rfl) S hE hG ht kk
    · exact c_getv (ci := 27) (k := 1) hdg (Or.inl q1140) rfl in_X21 (by decide) (by decide) (Or.inl rfl) (by show va_rf (cR G a 1) = _; rw [hv]; rfl) S hE hG ht kk
  · cases hv
theorem cg_X3_286 {a : Nat} {v : Nat} (hdg : decode cc pc = .ok (.getfield 286, 3)) (S : CallFix p m c cc nL s args lw_all RX3) (hE : gEnv E s) (hG : gC E G H) (hv : cGetR G [15] a 0 = some v) (kk : W p l e R s m args below meth c H locs cells slots Q (F0 m (pc + 3) ls (.ref v :: rest))) : W p l e R s m args below meth c H locs cells slots Q (F0 m pc ls (.ref a :: rest)) := by
  unfold cGetR at hv
  split at hv
  · next ht =>
    have ht := List.mem_singleton.mp ht
    exact c_getv (ci := 14) (k := 0) hdg (Or.inr ⟨_, lw_nw q1021 rfl⟩) rfl in_X8 (by decide) (by decide) (Or.inl rfl) (by show va_rf (cR G a 0) = _; rw [hv]; rfl) S hE hG ht kk
  · cases hv
theorem cp_X3_314 {a : Nat} {v : Option Nat} (hdg : decode cc pc = .ok (.putfield 314, 3)) (S : CallFix p m c cc nL s args lw_all RX3) (hE : gEnv E s) (hG : gC E G H) (hS : va_S (gx_C E) s.heap H locs) (hC0 : gC E Gz s.heap) (hv : cPutR G [29] a 2 v = some G1) (kk : ∀ (H1 : Heap) (locs1 : List Loc), gC E G1 H1 → va_S (gx_C E) s.heap H1 locs1 → WC E p l e R s m args below meth c H1 locs1 Q (F0 m (pc + 3) ls rest)) : WC E p l e R s m args below meth c H locs Q (F0 m pc ls (va_rf v :: .ref a :: rest)) := by
  unfold cPutR at hv
  split at hv
  · next ht =>
    cases hv
    have ht := List.mem_singleton.mp ht
    exact c_putv (ci := 28) (k := 2) (v := va_rf v) (G' := cSetR G a 2 v) hdg (Or.inr ⟨_, lw_nw q1487 rfl⟩) rfl in_X22 tyX22_ok nmX22 (by decide) (Or.inl rfl) (by decide) (Or.inl rfl) (tyX22_ok 2 (by decide)) (c_narR v (Or.inl ⟨_, rfl⟩)).1 (c_narR v (Or.inl ⟨_, rfl⟩)).2 S hE hG hS ht (by decide) rfl rfl rfl rfl rfl rfl c_othR (c_hvR (fun _ _ _ => rfl)) hC0.2.2.2.2.2 kk
  · cases hv
theorem cp_X3_318 {a : Nat} {v : Int32} (hdg : decode cc pc = .ok (.putfield 318, 3)) (S : CallFix p m c cc nL s args lw_all RX3) (hE : gEnv E s) (hG : gC E G H) (hS : va_S (gx_C E) s.heap H locs) (hC0 : gC E Gz s.heap) (hv : cPutI G [29] a 4 v = some G1) (kk : ∀ (H1 : Heap) (locs1 : List Loc), gC E G1 H1 → va_S (gx_C E) s.heap H1 locs1 → WC E p l e R s m args below meth c H1 locs1 Q (F0 m (pc + 3) ls rest)) : WC E p l e R s m args below meth c H locs Q (F0 m pc ls (.int v :: .ref a :: rest)) := by
  unfold cPutI at hv
  split at hv
  · next ht =>
    cases hv
    have ht := List.mem_singleton.mp ht
    exact c_putv (ci := 28) (k := 4) (v := .int v) (G' := cSetI G a 4 v) hdg (Or.inr ⟨_, lw_nw q1491 rfl⟩) rfl in_X22 tyX22_ok nmX22 (by decide) (Or.inl rfl) (by decide) (Or.inl rfl) (tyX22_ok 4 (by decide)) rfl rfl S hE hG hS ht (by decide) rfl rfl rfl rfl rfl rfl c_othI (c_hvI (fun _ _ _ => rfl)) hC0.2.2.2.2.2 kk
  · cases hv
theorem cp_X3_323 {a : Nat} {v : Option Nat} (hdg : decode cc pc = .ok (.putfield 323, 3)) (S : CallFix p m c cc nL s args lw_all RX3) (hE : gEnv E s) (hG : gC E G H) (hS : va_S (gx_C E) s.heap H locs) (hC0 : gC E Gz s.heap) (hv : cPutR G [29] a 3 v = some G1) (kk : ∀ (H1 : Heap) (locs1 : List Loc), gC E G1 H1 → va_S (gx_C E) s.heap H1 locs1 → WC E p l e R s m args below meth c H1 locs1 Q (F0 m (pc + 3) ls rest)) : WC E p l e R s m args below meth c H locs Q (F0 m pc ls (va_rf v :: .ref a :: rest)) := by
  unfold cPutR at hv
  split at hv
  · next ht =>
    cases hv
    have ht := List.mem_singleton.mp ht
    exact c_putv (ci := 28) (k := 3) (v := va_rf v) (G' := cSetR G a 3 v) hdg (Or.inr ⟨_, lw_nw q1489 rfl⟩) rfl in_X22 tyX22_ok nmX22 (by decide) (Or.inl rfl) (by decide) (Or.inl rfl) (tyX22_ok 3 (by decide)) (c_narR v (Or.inl ⟨_, rfl⟩)).1 (c_narR v (Or.inl ⟨_, rfl⟩)).2 S hE hG hS ht (by decide) rfl rfl rfl rfl rfl rfl c_othR (c_hvR (fun _ _ _ => rfl)) hC0.2.2.2.2.2 kk
  · cases hv
theorem cg_X3_339 {a : Nat} {v : Int32} (hdg : decode cc pc = .ok (.getfield 339, 3)) (S : CallFix p m c cc nL s args lw_all RX3) (hE : gEnv E s) (hG : gC E G H) (hv : cGetI G [29] a 0 = some v) (kk : W p l e R s m args below meth c H locs cells slots Q (F0 m (pc + 3) ls (.int v :: rest))) : W p l e R s m args below meth c H locs cells slots Q (F0 m pc ls (.ref a :: rest)) := by
  unfold cGetI at hv
  split at hv
  · next ht =>
    cases hv
    have ht := List.mem_singleton.mp ht
    exact c_getv (ci := 28) (k := 0) hdg (Or.inr ⟨_, lw_nw q1482 rfl⟩) rfl in_X22 (by decide) (by decide) (Or.inl rfl) rfl S hE hG ht kk
  · cases hv
theorem cg_X3_345 {a : Nat} {v : Int32} (hdg : decode cc pc = .ok (.getfield 345, 3)) (S : CallFix p m c cc nL s args lw_all RX3) (hE : gEnv E s) (hG : gC E G H) (hv : cGetI G [29] a 1 = some v) (kk : W p l e R s m args below meth c H locs cells slots Q (F0 m (pc + 3) ls (.int v :: rest))) : W p l e R s m args below meth c H locs cells slots Q (F0 m pc ls (.ref a :: rest)) := by
  unfold cGetI at hv
  split at hv
  · next ht =>
    cases hv
    have ht := List.mem_singleton.mp ht
    exact c_getv (ci := 28) (k := 1) hdg (Or.inr ⟨_, lw_nw q1485 rfl⟩) rfl in_X22 (by decide) (by decide) (Or.inl rfl) rfl S hE hG ht kk
  · cases hv
theorem cp_X3_346 {a : Nat} {v : Int32} (hdg : decode cc pc = .ok (.putfield 346, 3)) (S : CallFix p m c cc nL s args lw_all RX3) (hE : gEnv E s) (hG : gC E G H) (hS : va_S (gx_C E) s.heap H locs) (hC0 : gC E Gz s.heap) (hv : cPutI G [29] a 5 v = some G1) (kk : ∀ (H1 : Heap) (locs1 : List Loc), gC E G1 H1 → va_S (gx_C E) s.heap H1 locs1 → WC E p l e R s m args below meth c H1 locs1 Q (F0 m (pc + 3) ls rest)) : WC E p l e R s m args below meth c H locs Q (F0 m pc ls (.int v :: .ref a :: rest)) := by
  unfold cPutI at hv
  split at hv
  · next ht =>
    cases hv
    have ht := List.mem_singleton.mp ht
    exact c_putv (ci := 28) (k := 5) (v := .int v) (G' := cSetI G a 5 v) hdg (Or.inr ⟨_, lw_nw q1493 rfl⟩) rfl in_X22 tyX22_ok nmX22 (by decide) (Or.inl rfl) (by decide) (Or.inl rfl) (tyX22_ok 5 (by decide)) rfl rfl S hE hG hS ht (by decide) rfl rfl rfl rfl rfl rfl c_othI (c_hvI (fun _ _ _ => rfl)) hC0.2.2.2.2.2 kk
  · cases hv
theorem cg_X3_358 {a : Nat} {v : Int32} (hdg : decode cc pc = .ok (.getfield 358, 3)) (S : CallFix p m c cc nL s args lw_all RX3) (hE : gEnv E s) (hG : gC E G H) (hv : cGetI G [11] a 20 = some v) (kk : W p l e R s m args below meth c H locs cells slots Q (F0 m (pc + 3) ls (.int v :: rest))) : W p l e R s m args below meth c H locs cells slots Q (F0 m pc ls (.ref a :: rest)) := by
  unfold cGetI at hv
  split at hv
  · next ht =>
    cases hv
    have ht := List.mem_singleton.mp ht
    exact c_getv (ci := 10) (k := 20) hdg (Or.inl q653) rfl in_X3 (by decide) (by decide) (Or.inl rfl) rfl S hE hG ht kk
  · cases hv
theorem cp_X3_358 {a : Nat} {v : Int32} (hdg : decode cc pc = .ok (.putfield 358, 3)) (S : CallFix p m c cc nL s args lw_all RX3) (hE : gEnv E s) (hG : gC E G H) (hS : va_S (gx_C E) s.heap H locs) (hC0 : gC E Gz s.heap) (hv : cPutI G [11] a 20 v = some G1) (kk : ∀ (H1 : Heap) (locs1 : List Loc), gC E G1 H1 → va_S (gx_C E) s.heap H1 locs1 → WC E p l e R s m args below meth c H1 locs1 Q (F0 m (pc + 3) ls rest)) : WC E p l e R s m args below meth c H locs Q (F0 m pc ls (.int v :: .ref a :: rest)) := by
  unfold cPutI at hv
  split at hv
  · next ht =>
    cases hv
    have ht := List.mem_singleton.mp ht
    exact c_putv (ci := 10) (k := 20) (v := .int v) (G' := cSetI G a 20 v) hdg (Or.inl q653) rfl in_X3 tyX3_ok nmX3 (by decide) (Or.inl rfl) (by decide) (Or.inl rfl) (tyX3_ok 20 (by decide)) rfl rfl S hE hG hS ht (by decide) rfl rfl rfl rfl rfl rfl c_othI (c_hvI (fun _ _ _ => rfl)) hC0.2.2.2.2.2 kk
  · cases hv
theorem cg_X3_416 {a : Nat} {v : Nat} (hdg : decode cc pc = .ok (.getfield 416, 3)) (S : CallFix p m c cc nL s args lw_all RX3) (hE : gEnv E s) (hG : gC E G H) (hv : cGetR G [38] a 1 = some v) (kk : W p l e R s m args below meth c H locs cells slots Q (F0 m (pc + 3) ls (.ref v :: rest))) : W p l e R s m args below meth c H locs cells slots Q (F0 m pc ls (.ref a :: rest)) := by
  unfold cGetR at hv
  split at hv
  · next ht =>
    have ht := List.mem_singleton.mp ht
    exact c_getv (ci := 37) (k := 1) hdg (Or.inr ⟨_, lw_nw q1694 rfl⟩) rfl in_X33 (by decide) (by decide) (Or.inl rfl) (by show va_rf (cR G a 1) = _; rw [hv]; rfl) S hE hG ht kk
  · cases hv
theorem cg_X3_419 {a : Nat} {v : Int32} (hdg : decode cc pc = .ok (.getfield 419, 3)) (S : CallFix p m c cc nL s args lw_all RX3) (hE : gEnv E s) (hG : gC E G H) (hv : cGetI G [38] a 0 = some v) (kk : W p l e R s m args below meth c H locs cells slots Q (F0 m (pc + 3) ls (.int v :: rest))) : W p l e R s m args below meth c H locs cells slots Q (F0 m pc ls (.ref a :: rest)) := by
  unfold cGetI at hv
  split at hv
  · next ht =>
    cases hv
    have ht := List.mem_singleton.mp ht
    exact c_getv (ci := 37) (k := 0) hdg (Or.inr ⟨_, lw_nw q1692 rfl⟩) rfl in_X33 (by decide) (by decide) (Or.inl rfl) rfl S hE hG ht kk
  · cases hv
theorem cg_X26_7 {a : Nat} {v : Int32} (hdg : decode cc pc = .ok (.getfield 7, 3)) (S : CallFix p m c cc nL s args lw_all RX26) (hE : gEnv E s) (hG : gC E G H) (hv : cGetI G [32] a 0 = some v) (kk : W p l e R s m args below meth c H locs cells slots Q (F0 m (pc + 3) ls (.int v :: rest))) : W p l e R s m args below meth c H locs cells slots Q (F0 m pc ls (.ref a :: rest)) := by
  unfold cGetI at hv
  split at hv
  · next ht =>
    cases hv
    have ht := List.mem_singleton.mp ht
    exact c_getv (ci := 31) (k := 0) hdg (Or.inl q1567) rfl in_X26 (by decide) (by decide) (Or.inl rfl) rfl S hE hG ht kk
  · cases hv
theorem cp_X26_7i {a : Nat} {v : Int32} (hdg : decode cc pc = .ok (.putfield 7, 3)) (S : CallFix p m c cc nL s args lw_all RX26) (hE : gEnv E s) (hG : gC E G H) (hS : va_S (gx_C E) s.heap H locs) (hC0 : gC E Gz s.heap) (hnm : meth.name = "<init>") (hv : cPutI G [32] a 0 v = some G1) (kk : ∀ (H1 : Heap) (locs1 : List Loc), gC E G1 H1 → va_S (gx_C E) s.heap H1 locs1 → WC E p l e R s m args below meth c H1 locs1 Q (F0 m (pc + 3) ls rest)) : WC E p l e R s m args below meth c H locs Q (F0 m pc ls (.int v :: .ref a :: rest)) := by
  unfold cPutI at hv
  split at hv
  · next ht =>
    cases hv
    have ht := List.mem_singleton.mp ht
    exact c_putv (ci := 31) (k := 0) (v := .int v) (G' := cSetI G a 0 v) hdg (Or.inl q1567) rfl in_X26 tyX26_ok nmX26 (by decide) (Or.inl rfl) (by decide) (Or.inr ⟨hnm, rfl, q1567⟩) (tyX26_ok 0 (by decide)) rfl rfl S hE hG hS ht (by decide) rfl rfl rfl rfl rfl rfl c_othI (c_hvI (fun _ _ _ => rfl)) hC0.2.2.2.2.2 kk
  · cases hv
theorem cp_X26_13i {a : Nat} {v : Int64} (hdg : decode cc pc = .ok (.putfield 13, 3)) (S : CallFix p m c cc nL s args lw_all RX26) (hE : gEnv E s) (hG : gC E G H) (hS : va_S (gx_C E) s.heap H locs) (hC0 : gC E Gz s.heap) (hnm : meth.name = "<init>") (hv : cPutJ G [32] a 2 v = some G1) (kk : ∀ (H1 : Heap) (locs1 : List Loc), gC E G1 H1 → va_S (gx_C E) s.heap H1 locs1 → WC E p l e R s m args below meth c H1 locs1 Q (F0 m (pc + 3) ls rest)) : WC E p l e R s m args below meth c H locs Q (F0 m pc ls (.long v :: .ref a :: rest)) := by
  unfold cPutJ at hv
  split at hv
  · next ht =>
    cases hv
    have ht := List.mem_singleton.mp ht
    exact c_putv (ci := 31) (k := 2) (v := .long v) (G' := cSetJ G a 2 v) hdg (Or.inl q1570) rfl in_X26 tyX26_ok nmX26 (by decide) (Or.inl rfl) (by decide) (Or.inr ⟨hnm, rfl, q1570⟩) (tyX26_ok 2 (by decide)) rfl rfl S hE hG hS ht (by decide) rfl rfl rfl rfl rfl rfl c_othJ (c_hvJ (fun _ _ _ => rfl)) hC0.2.2.2.2.2 kk
  · cases hv
theorem cp_X26_17i {a : Nat} {v : Int32} (hdg : decode cc pc = .ok (.putfield 17, 3)) (S : CallFix p m c cc nL s args lw_all RX26) (hE : gEnv E s) (hG : gC E G H) (hS : va_S (gx_C E) s.heap H locs) (hC0 : gC E Gz s.heap) (hnm : meth.name = "<init>") (hv : cPutI G [32] a 1 v = some G1) (kk : ∀ (H1 : Heap) (locs1 : List Loc), gC E G1 H1 → va_S (gx_C E) s.heap H1 locs1 → WC E p l e R s m args below meth c H1 locs1 Q (F0 m (pc + 3) ls rest)) : WC E p l e R s m args below meth c H locs Q (F0 m pc ls (.int v :: .ref a :: rest)) := by
  unfold cPutI at hv
  split at hv
  · next ht =>
    cases hv
    have ht := List.mem_singleton.mp ht
    exact c_putv (ci := 31) (k := 1) (v := .int v) (G' := cSetI G a 1 v) hdg (Or.inl q1568) rfl in_X26 tyX26_ok nmX26 (by decide) (Or.inl rfl) (by decide) (Or.inr ⟨hnm, rfl, q1568⟩) (tyX26_ok 1 (by decide)) rfl rfl S hE hG hS ht (by decide) rfl rfl rfl rfl rfl rfl c_othI (c_hvI (fun _ _ _ => rfl)) hC0.2.2.2.2.2 kk
  · cases hv
theorem cg_X26_20 {a : Nat} {v : Option Nat} (hdg : decode cc pc = .ok (.getfield 20, 3)) (S : CallFix p m c cc nL s args lw_all RX26) (hE : gEnv E s) (hG : gC E G H) (hv : cGetQ G [32] a 3 = some v) (kk : W p l e R s m args below meth c H locs cells slots Q (F0 m (pc + 3) ls (va_rf v :: rest))) : W p l e R s m args below meth c H locs cells slots Q (F0 m pc ls (.ref a :: rest)) := by
  unfold cGetQ at hv
  split at hv
  · next ht =>
    cases hv
    have ht := List.mem_singleton.mp ht
    exact c_getv (ci := 31) (k := 3) hdg (Or.inl q1572) rfl in_X26 (by decide) (by decide) (Or.inl rfl) rfl S hE hG ht kk
  · cases hv
theorem cg_X27_7 {a : Nat} {v : Int32} (hdg : decode cc pc = .ok (.getfield 7, 3)) (S : CallFix p m c cc nL s args lw_all RX27) (hE : gEnv E s) (hG : gC E G H) (hv : cGetI G [33] a 0 = some v) (kk : W p l e R s m args below meth c H locs cells slots Q (F0 m (pc + 3) ls (.int v :: rest))) : W p l e R s m args below meth c H locs cells slots Q (F0 m pc ls (.ref a :: rest)) := by
  unfold cGetI at hv
  split at hv
  · next ht =>
    cases hv
    have ht := List.mem_singleton.mp ht
    exact c_getv (ci := 32) (k := 0) hdg (Or.inl q1589) rfl in_X27 (by decide) (by decide) (Or.inl rfl) rfl S hE hG ht kk
  · cases hv
theorem cp_X27_7i {a : Nat} {v : Int32} (hdg : decode cc pc = .ok (.putfield 7, 3)) (S : CallFix p m c cc nL s args lw_all RX27) (hE : gEnv E s) (hG : gC E G H) (hS : va_S (gx_C E) s.heap H locs) (hC0 : gC E Gz s.heap) (hnm : meth.name = "<init>") (hv : cPutI G [33] a 0 v = some G1) (kk : ∀ (H1 : Heap) (locs1 : List Loc), gC E G1 H1 → va_S (gx_C E) s.heap H1 locs1 → WC E p l e R s m args below meth c H1 locs1 Q (F0 m (pc + 3) ls rest)) : WC E p l e R s m args below meth c H locs Q (F0 m pc ls (.int v :: .ref a :: rest)) := by
  unfold cPutI at hv
  split at hv
  · next ht =>
    cases hv
    have ht := List.mem_singleton.mp ht
    exact c_putv (ci := 32) (k := 0) (v := .int v) (G' := cSetI G a 0 v) hdg (Or.inl q1589) rfl in_X27 tyX27_ok nmX27 (by decide) (Or.inl rfl) (by decide) (Or.inr ⟨hnm, rfl, q1589⟩) (tyX27_ok 0 (by decide)) rfl rfl S hE hG hS ht (by decide) rfl rfl rfl rfl rfl rfl c_othI (c_hvI (fun _ _ _ => rfl)) hC0.2.2.2.2.2 kk
  · cases hv
theorem cg_X27_13 {a : Nat} {v : Nat} (hdg : decode cc pc = .ok (.getfield 13, 3)) (S : CallFix p m c cc nL s args lw_all RX27) (hE : gEnv E s) (hG : gC E G H) (hv : cGetR G [14, 18, 20, 21, 23, 25, 26, 27, 28] a 1 = some v) (kk : W p l e R s m args below meth c H locs cells slots Q (F0 m (pc + 3) ls (.ref v :: rest))) : W p l e R s m args below meth c H locs cells slots Q (F0 m pc ls (.ref a :: rest)) := by
  unfold cGetR at hv
  split at hv
  · next ht =>
    simp only [List.mem_cons, List.not_mem_nil, or_false] at ht
    rcases ht with ht | ht | ht | ht | ht | ht | ht | ht | ht
    · exact c_getv (ci := 13) (k := 1) hdg (Or.inl q1137) rfl in_X7 (by decide) (by decide) (Or.inl rfl) (by show va_rf (cR G a 1) = _; rw [hv]; rfl) S hE hG ht kk
    · exact c_getv (ci := 17) (k := 1) hdg (Or.inl q1137) rfl in_X11 (by decide) (by decide) (Or.inl rfl) (by show va_rf (cR G a 1) = _; rw [hv]; rfl) S hE hG ht kk
    · exact c_getv (ci := 19) (k := 1) hdg (Or.inl q1137) rfl in_X13 (by decide) (by decide) (Or.inl rfl) (by show va_rf (cR G a 1) = _; rw [hv]; rfl) S hE hG ht kk
    · exact c_getv (ci := 20) (k := 1) hdg (Or.inl q1137) rfl in_X14 (by decide) (by decide) (Or.inl rfl) (by show va_rf (cR G a 1) = _; rw [hv]; rfl) S hE hG ht kk
    · exact c_getv (ci := 22) (k := 1) hdg (Or.inl q1137) rfl in_X16 (by decide) (by decide) (Or.inl rfl) (by show va_rf (cR G a 1) = _; rw [hv]; rfl) S hE hG ht kk
    · exact c_getv (ci := 24) (k := 1) hdg (Or.inl q1137) rfl in_X18 (by decide) (by decide) (Or.inl rfl) (by show va_rf (cR G a 1) = _; rw [hv]; rfl) S hE hG ht kk
    · exact c_getv (ci := 25) (k := 1) hdg (Or.inl q1137) rfl in_X19 (by decide) (by decide) (Or.inl rfl) (by show va_rf (cR G a 1) = _; rw [hv]; rfl) S hE hG ht kk
    · exact c_getv (ci := 26) (k := 1) hdg (Or.inl q1137) rfl in_X20 (by decide) (by decide) (Or.inl rfl) (by show va_rf (cR G a 1) = _; rw [hv]; rfl) S hE hG ht kk
    · exact c_getv (ci := 27) (k := 1) hdg (Or.inl q1137) rfl in_X21 (by decide) (by decide) (Or.inl rfl) (by show va_rf (cR G a 1) = _; rw [hv]; rfl) S hE hG ht kk
  · cases hv
theorem cg_X27_19 {a : Nat} {v : Nat} (hdg : decode cc pc = .ok (.getfield 19, 3)) (S : CallFix p m c cc nL s args lw_all RX27) (hE : gEnv E s) (hG : gC E G H) (hv : cGetR G [15] a 1 = some v) (kk : W p l e R s m args below meth c H locs cells slots Q (F0 m (pc + 3) ls (.ref v :: rest))) : W p l e R s m args below meth c H locs cells slots Q (F0 m pc ls (.ref a :: rest)) := by
  unfold cGetR at hv
  split at hv
  · next ht =>
    have ht := List.mem_singleton.mp ht
    exact c_getv (ci := 14) (k := 1) hdg (Or.inr ⟨_, lw_nw q1023 rfl⟩) rfl in_X8 (by decide) (by decide) (Or.inl rfl) (by show va_rf (cR G a 1) = _; rw [hv]; rfl) S hE hG ht kk
  · cases hv
theorem cp_X6_10i {a : Nat} {v : Option Nat} (hdg : decode cc pc = .ok (.putfield 10, 3)) (S : CallFix p m c cc nL s args lw_all RX6) (hE : gEnv E s) (hG : gC E G H) (hS : va_S (gx_C E) s.heap H locs) (hC0 : gC E Gz s.heap) (hnm : meth.name = "<init>") (hv : cPutR G [14, 18, 20, 21, 23, 25, 26, 27, 28] a 1 v = some G1) (kk : ∀ (H1 : Heap) (locs1 : List Loc), gC E G1 H1 → va_S (gx_C E) s.heap H1 locs1 → WC E p l e R s m args below meth c H1 locs1 Q (F0 m (pc + 3) ls rest)) : WC E p l e R s m args below meth c H locs Q (F0 m pc ls (va_rf v :: .ref a :: rest)) := by
  unfold cPutR at hv
  split at hv
  · next ht =>
    cases hv
    simp only [List.mem_cons, List.not_mem_nil, or_false] at ht
    rcases ht with ht | ht | ht | ht | ht | ht | ht | ht | ht
    · exact c_putv (ci := 13) (k := 1) (v := va_rf v) (G' := cSetR G a 1 v) hdg (Or.inl q1136) rfl in_X7 tyX7_ok nmX7 (by decide) (Or.inl rfl) (by decide) (Or.inr ⟨hnm, rfl, q1136⟩) (tyX7_ok 1 (by decide)) (c_narR v (Or.inl ⟨_, rfl⟩)).1 (c_narR v (Or.inl ⟨_, rfl⟩)).2 S hE hG hS ht (by decide) rfl rfl rfl rfl rfl rfl c_othR (c_hvR (fun _ _ _ => rfl)) hC0.2.2.2.2.2 kk
    · exact c_putv (ci := 17) (k := 1) (v := va_rf v) (G' := cSetR G a 1 v) hdg (Or.inl q1136) rfl in_X11 tyX11_ok nmX11 (by decide) (Or.inl rfl) (by decide) (Or.inr ⟨hnm, rfl, q1136⟩) (tyX11_ok 1 (by decide)) (c_narR v (Or.inl ⟨_, rfl⟩)).1 (c_narR v (Or.inl ⟨_, rfl⟩)).2 S hE hG hS ht (by decide) rfl rfl rfl rfl rfl rfl c_othR (c_hvR (fun _ _ _ => rfl)) hC0.2.2.2.2.2 kk
    · exact c_putv (ci := 19) (k := 1) (v := va_rf v) (G' := cSetR G a 1 v) hdg (Or.inl q1136) rfl in_X13 tyX13_ok nmX13 (by decide) (Or.inl rfl) (by decide) (Or.inr ⟨hnm, rfl, q1136⟩) (tyX13_ok 1 (by decide)) (c_narR v (Or.inl ⟨_, rfl⟩)).1 (c_narR v (Or.inl ⟨_, rfl⟩)).2 S hE hG hS ht (by decide) rfl rfl rfl rfl rfl rfl c_othR (c_hvR (fun _ _ _ => rfl)) hC0.2.2.2.2.2 kk
    · exact c_putv (ci := 20) (k := 1) (v := va_rf v) (G' := cSetR G a 1 v) hdg (Or.inl q1136) rfl in_X14 tyX14_ok nmX14 (by decide) (Or.inl rfl) (by decide) (Or.inr ⟨hnm, rfl, q1136⟩) (tyX14_ok 1 (by decide)) (c_narR v (Or.inl ⟨_, rfl⟩)).1 (c_narR v (Or.inl ⟨_, rfl⟩)).2 S hE hG hS ht (by decide) rfl rfl rfl rfl rfl rfl c_othR (c_hvR (fun _ _ _ => rfl)) hC0.2.2.2.2.2 kk
    · exact c_putv (ci := 22) (k := 1) (v := va_rf v) (G' := cSetR G a 1 v) hdg (Or.inl q1136) rfl in_X16 tyX16_ok nmX16 (by decide) (Or.inl rfl) (by decide) (Or.inr ⟨hnm, rfl, q1136⟩) (tyX16_ok 1 (by decide)) (c_narR v (Or.inl ⟨_, rfl⟩)).1 (c_narR v (Or.inl ⟨_, rfl⟩)).2 S hE hG hS ht (by decide) rfl rfl rfl rfl rfl rfl c_othR (c_hvR (fun _ _ _ => rfl)) hC0.2.2.2.2.2 kk
    · exact c_putv (ci := 24) (k := 1) (v := va_rf v) (G' := cSetR G a 1 v) hdg (Or.inl q1136) rfl in_X18 tyX18_ok nmX18 (by decide) (Or.inl rfl) (by decide) (Or.inr ⟨hnm, rfl, q1136⟩) (tyX18_ok 1 (by decide)) (c_narR v (Or.inl ⟨_, rfl⟩)).1 (c_narR v (Or.inl ⟨_, rfl⟩)).2 S hE hG hS ht (by decide) rfl rfl rfl rfl rfl rfl c_othR (c_hvR (fun _ _ _ => rfl)) hC0.2.2.2.2.2 kk
    · exact c_putv (ci := 25) (k := 1) (v := va_rf v) (G' := cSetR G a 1 v) hdg (Or.inl q1136) rfl in_X19 tyX19_ok nmX19 (by decide) (Or.inl rfl) (by decide) (Or.inr ⟨hnm, rfl, q1136⟩) (tyX19_ok 1 (by decide)) (c_narR v (Or.inl ⟨_, rfl⟩)).1 (c_narR v (Or.inl ⟨_, rfl⟩)).2 S hE hG hS ht (by decide) rfl rfl rfl rfl rfl rfl c_othR (c_hvR (fun _ _ _ => rfl)) hC0.2.2.2.2.2 kk
    · exact c_putv (ci := 26) (k := 1) (v := va_rf v) (G' := cSetR G a 1 v) hdg (Or.inl q1136) rfl in_X20 tyX20_ok nmX20 (by decide) (Or.inl rfl) (by decide) (Or.inr ⟨hnm, rfl, q1136⟩) (tyX20_ok 1 (by decide)) (c_narR v (Or.inl ⟨_, rfl⟩)).1 (c_narR v (Or.inl ⟨_, rfl⟩)).2 S hE hG hS ht (by decide) rfl rfl rfl rfl rfl rfl c_othR (c_hvR (fun _ _ _ => rfl)) hC0.2.2.2.2.2 kk
    · exact c_putv (ci := 27) (k := 1) (v := va_rf v) (G' := cSetR G a 1 v) hdg (Or.inl q1136) rfl in_X21 tyX21_ok nmX21 (by decide) (Or.inl rfl) (by decide) (Or.inr ⟨hnm, rfl, q1136⟩) (tyX21_ok 1 (by decide)) (c_narR v (Or.inl ⟨_, rfl⟩)).1 (c_narR v (Or.inl ⟨_, rfl⟩)).2 S hE hG hS ht (by decide) rfl rfl rfl rfl rfl rfl c_othR (c_hvR (fun _ _ _ => rfl)) hC0.2.2.2.2.2 kk
  · cases hv
theorem cp_X6_16i {a : Nat} {v : Int32} (hdg : decode cc pc = .ok (.putfield 16, 3)) (S : CallFix p m c cc nL s args lw_all RX6) (hE : gEnv E s) (hG : gC E G H) (hS : va_S (gx_C E) s.heap H locs) (hC0 : gC E Gz s.heap) (hnm : meth.name = "<init>") (hv : cPutI G [14, 18, 20, 21, 23, 25, 26, 27, 28] a 0 v = some G1) (kk : ∀ (H1 : Heap) (locs1 : List Loc), gC E G1 H1 → va_S (gx_C E) s.heap H1 locs1 → WC E p l e R s m args below meth c H1 locs1 Q (F0 m (pc + 3) ls rest)) : WC E p l e R s m args below meth c H locs Q (F0 m pc ls (.int v :: .ref a :: rest)) := by
  unfold cPutI at hv
  split at hv
  · next ht =>
    cases hv
    simp only [List.mem_cons, List.not_mem_nil, or_false] at ht
    rcases ht with ht | ht | ht | ht | ht | ht | ht | ht | ht
    · exact c_putv (ci := 13) (k := 0) (v := .int v) (G' := cSetI G a 0 v) hdg (Or.inl q1134) rfl in_X7 tyX7_ok nmX7 (by decide) (Or.inl rfl) (by decide) (Or.inr ⟨hnm, rfl, q1134⟩) (tyX7_ok 0 (by decide)) rfl rfl S hE hG hS ht (by decide) rfl rfl rfl rfl rfl rfl c_othI (c_hvI (fun _ _ _ => rfl)) hC0.2.2.2.2.2 kk
    · exact c_putv (ci := 17) (k := 0) (v := .int v) (G' := cSetI G a 0 v) hdg (Or.inl q1134) rfl in_X11 tyX11_ok nmX11 (by decide) (Or.inl rfl) (by decide) (Or.inr ⟨hnm, rfl, q1134⟩) (tyX11_ok 0 (by decide)) rfl rfl S hE hG hS ht (by decide) rfl rfl rfl rfl rfl rfl c_othI (c_hvI (fun _ _ _ => rfl)) hC0.2.2.2.2.2 kk
    · exact c_putv (ci := 19) (k := 0) (v := .int v) (G' := cSetI G a 0 v) hdg (Or.inl q1134) rfl in_X13 tyX13_ok nmX13 (by decide) (Or.inl rfl) (by decide) (Or.inr ⟨hnm, rfl, q1134⟩) (tyX13_ok 0 (by decide)) rfl rfl S hE hG hS ht (by decide) rfl rfl rfl rfl rfl rfl c_othI (c_hvI (fun _ _ _ => rfl)) hC0.2.2.2.2.2 kk
    · exact c_putv (ci := 20) (k := 0) (v := .int v) (G' := cSetI G a 0 v) hdg (Or.inl q1134) rfl in_X14 tyX14_ok nmX14 (by decide) (Or.inl rfl) (by decide) (Or.inr ⟨hnm, rfl, q1134⟩) (tyX14_ok 0 (by decide)) rfl rfl S hE hG hS ht (by decide) rfl rfl rfl rfl rfl rfl c_othI (c_hvI (fun _ _ _ => rfl)) hC0.2.2.2.2.2 kk
    · exact c_putv (ci := 22) (k := 0) (v := .int v) (G' := cSetI G a 0 v) hdg (Or.inl q1134) rfl in_X16 tyX16_ok nmX16 (by decide) (Or.inl rfl) (by decide) (Or.inr ⟨hnm, rfl, q1134⟩) (tyX16_ok 0 (by decide)) rfl rfl S hE hG hS ht (by decide) rfl rfl rfl rfl rfl rfl c_othI (c_hvI (fun _ _ _ => rfl)) hC0.2.2.2.2.2 kk
    · exact c_putv (ci := 24) (k := 0) (v := .int v) (G' := cSetI G a 0 v) hdg (Or.inl q1134) rfl in_X18 tyX18_ok nmX18 (by decide) (Or.inl rfl) (by decide) (Or.inr ⟨hnm, rfl, q1134⟩) (tyX18_ok 0 (by decide)) rfl rfl S hE hG hS ht (by decide) rfl rfl rfl rfl rfl rfl c_othI (c_hvI (fun _ _ _ => rfl)) hC0.2.2.2.2.2 kk
    · exact c_putv (ci := 25) (k := 0) (v := .int v) (G' := cSetI G a 0 v) hdg (Or.inl q1134) rfl in_X19 tyX19_ok nmX19 (by decide) (Or.inl rfl) (by decide) (Or.inr ⟨hnm, rfl, q1134⟩) (tyX19_ok 0 (by decide)) rfl rfl S hE hG hS ht (by decide) rfl rfl rfl rfl rfl rfl c_othI (c_hvI (fun _ _ _ => rfl)) hC0.2.2.2.2.2 kk
    · exact c_putv (ci := 26) (k := 0) (v := .int v) (G' := cSetI G a 0 v) hdg (Or.inl q1134) rfl in_X20 tyX20_ok nmX20 (by decide) (Or.inl rfl) (by decide) (Or.inr ⟨hnm, rfl, q1134⟩) (tyX20_ok 0 (by decide)) rfl rfl S hE hG hS ht (by decide) rfl rfl rfl rfl rfl rfl c_othI (c_hvI (fun _ _ _ => rfl)) hC0.2.2.2.2.2 kk
    · exact c_putv (ci := 27) (k := 0) (v := .int v) (G' := cSetI G a 0 v) hdg (Or.inl q1134) rfl in_X21 tyX21_ok nmX21 (by decide) (Or.inl rfl) (by decide) (Or.inr ⟨hnm, rfl, q1134⟩) (tyX21_ok 0 (by decide)) rfl rfl S hE hG hS ht (by decide) rfl rfl rfl rfl rfl rfl c_othI (c_hvI (fun _ _ _ => rfl)) hC0.2.2.2.2.2 kk
  · cases hv
theorem cg_X8_12 {a : Nat} {v : Nat} (hdg : decode cc pc = .ok (.getfield 12, 3)) (S : CallFix p m c cc nL s args lw_all RX8) (hE : gEnv E s) (hG : gC E G H) (hv : cGetR G [15] a 0 = some v) (kk : W p l e R s m args below meth c H locs cells slots Q (F0 m (pc + 3) ls (.ref v :: rest))) : W p l e R s m args below meth c H locs cells slots Q (F0 m pc ls (.ref a :: rest)) := by
  unfold cGetR at hv
  split at hv
  · next ht =>
    have ht := List.mem_singleton.mp ht
    exact c_getv (ci := 14) (k := 0) hdg (Or.inl q1020) rfl in_X8 (by decide) (by decide) (Or.inl rfl) (by show va_rf (cR G a 0) = _; rw [hv]; rfl) S hE hG ht kk
  · cases hv
theorem cp_X8_12i {a : Nat} {v : Option Nat} (hdg : decode cc pc = .ok (.putfield 12, 3)) (S : CallFix p m c cc nL s args lw_all RX8) (hE : gEnv E s) (hG : gC E G H) (hS : va_S (gx_C E) s.heap H locs) (hC0 : gC E Gz s.heap) (hnm : meth.name = "<init>") (hv : cPutR G [15] a 0 v = some G1) (kk : ∀ (H1 : Heap) (locs1 : List Loc), gC E G1 H1 → va_S (gx_C E) s.heap H1 locs1 → WC E p l e R s m args below meth c H1 locs1 Q (F0 m (pc + 3) ls rest)) : WC E p l e R s m args below meth c H locs Q (F0 m pc ls (va_rf v :: .ref a :: rest)) := by
  unfold cPutR at hv
  split at hv
  · next ht =>
    cases hv
    have ht := List.mem_singleton.mp ht
    exact c_putv (ci := 14) (k := 0) (v := va_rf v) (G' := cSetR G a 0 v) hdg (Or.inl q1020) rfl in_X8 tyX8_ok nmX8 (by decide) (Or.inl rfl) (by decide) (Or.inr ⟨hnm, rfl, q1020⟩) (tyX8_ok 0 (by decide)) (c_narR v (Or.inl ⟨_, rfl⟩)).1 (c_narR v (Or.inl ⟨_, rfl⟩)).2 S hE hG hS ht (by decide) rfl rfl rfl rfl rfl rfl c_othR (c_hvR (fun _ _ _ => rfl)) hC0.2.2.2.2.2 kk
  · cases hv
theorem cg_X8_18 {a : Nat} {v : Nat} (hdg : decode cc pc = .ok (.getfield 18, 3)) (S : CallFix p m c cc nL s args lw_all RX8) (hE : gEnv E s) (hG : gC E G H) (hv : cGetR G [15] a 1 = some v) (kk : W p l e R s m args below meth c H locs cells slots Q (F0 m (pc + 3) ls (.ref v :: rest))) : W p l e R s m args below meth c H locs cells slots Q (F0 m pc ls (.ref a :: rest)) := by
  unfold cGetR at hv
  split at hv
  · next ht =>
    have ht := List.mem_singleton.mp ht
    exact c_getv (ci := 14) (k := 1) hdg (Or.inl q1022) rfl in_X8 (by decide) (by decide) (Or.inl rfl) (by show va_rf (cR G a 1) = _; rw [hv]; rfl) S hE hG ht kk
  · cases hv
theorem cp_X8_18i {a : Nat} {v : Option Nat} (hdg : decode cc pc = .ok (.putfield 18, 3)) (S : CallFix p m c cc nL s args lw_all RX8) (hE : gEnv E s) (hG : gC E G H) (hS : va_S (gx_C E) s.heap H locs) (hC0 : gC E Gz s.heap) (hnm : meth.name = "<init>") (hv : cPutR G [15] a 1 v = some G1) (kk : ∀ (H1 : Heap) (locs1 : List Loc), gC E G1 H1 → va_S (gx_C E) s.heap H1 locs1 → WC E p l e R s m args below meth c H1 locs1 Q (F0 m (pc + 3) ls rest)) : WC E p l e R s m args below meth c H locs Q (F0 m pc ls (va_rf v :: .ref a :: rest)) := by
  unfold cPutR at hv
  split at hv
  · next ht =>
    cases hv
    have ht := List.mem_singleton.mp ht
    exact c_putv (ci := 14) (k := 1) (v := va_rf v) (G' := cSetR G a 1 v) hdg (Or.inl q1022) rfl in_X8 tyX8_ok nmX8 (by decide) (Or.inl rfl) (by decide) (Or.inr ⟨hnm, rfl, q1022⟩) (tyX8_ok 1 (by decide)) (c_narR v (Or.inr ⟨_, rfl⟩)).1 (c_narR v (Or.inr ⟨_, rfl⟩)).2 S hE hG hS ht (by decide) rfl rfl rfl rfl rfl rfl c_othR (c_hvR (fun _ _ _ => rfl)) hC0.2.2.2.2.2 kk
  · cases hv
theorem cg_X8_22 {a : Nat} {v : Nat} (hdg : decode cc pc = .ok (.getfield 22, 3)) (S : CallFix p m c cc nL s args lw_all RX8) (hE : gEnv E s) (hG : gC E G H) (hv : cGetR G [15] a 2 = some v) (kk : W p l e R s m args below meth c H locs cells slots Q (F0 m (pc + 3) ls (.ref v :: rest))) : W p l e R s m args below meth c H locs cells slots Q (F0 m pc ls (.ref a :: rest)) := by
  unfold cGetR at hv
  split at hv
  · next ht =>
    have ht := List.mem_singleton.mp ht
    exact c_getv (ci := 14) (k := 2) hdg (Or.inl q1025) rfl in_X8 (by decide) (by decide) (Or.inl rfl) (by show va_rf (cR G a 2) = _; rw [hv]; rfl) S hE hG ht kk
  · cases hv
theorem cp_X8_22i {a : Nat} {v : Option Nat} (hdg : decode cc pc = .ok (.putfield 22, 3)) (S : CallFix p m c cc nL s args lw_all RX8) (hE : gEnv E s) (hG : gC E G H) (hS : va_S (gx_C E) s.heap H locs) (hC0 : gC E Gz s.heap) (hnm : meth.name = "<init>") (hv : cPutR G [15] a 2 v = some G1) (kk : ∀ (H1 : Heap) (locs1 : List Loc), gC E G1 H1 → va_S (gx_C E) s.heap H1 locs1 → WC E p l e R s m args below meth c H1 locs1 Q (F0 m (pc + 3) ls rest)) : WC E p l e R s m args below meth c H locs Q (F0 m pc ls (va_rf v :: .ref a :: rest)) := by
  unfold cPutR at hv
  split at hv
  · next ht =>
    cases hv
    have ht := List.mem_singleton.mp ht
    exact c_putv (ci := 14) (k := 2) (v := va_rf v) (G' := cSetR G a 2 v) hdg (Or.inl q1025) rfl in_X8 tyX8_ok nmX8 (by decide) (Or.inl rfl) (by decide) (Or.inr ⟨hnm, rfl, q1025⟩) (tyX8_ok 2 (by decide)) (c_narR v (Or.inr ⟨_, rfl⟩)).1 (c_narR v (Or.inr ⟨_, rfl⟩)).2 S hE hG hS ht (by decide) rfl rfl rfl rfl rfl rfl c_othR (c_hvR (fun _ _ _ => rfl)) hC0.2.2.2.2.2 kk
  · cases hv
theorem cg_X8_25 {a : Nat} {v : Nat} (hdg : decode cc pc = .ok (.getfield 25, 3)) (S : CallFix p m c cc nL s args lw_all RX8) (hE : gEnv E s) (hG : gC E G H) (hv : cGetR G [15] a 3 = some v) (kk : W p l e R s m args below meth c H locs cells slots Q (F0 m (pc + 3) ls (.ref v :: rest))) : W p l e R s m args below meth c H locs cells slots Q (F0 m pc ls (.ref a :: rest)) := by
  unfold cGetR at hv
  split at hv
  · next ht =>
    have ht := List.mem_singleton.mp ht
    exact c_getv (ci := 14) (k := 3) hdg (Or.inl q1027) rfl in_X8 (by decide) (by decide) (Or.inl rfl) (by show va_rf (cR G a 3) = _; rw [hv]; rfl) S hE hG ht kk
  · cases hv
theorem cp_X8_25i {a : Nat} {v : Option Nat} (hdg : decode cc pc = .ok (.putfield 25, 3)) (S : CallFix p m c cc nL s args lw_all RX8) (hE : gEnv E s) (hG : gC E G H) (hS : va_S (gx_C E) s.heap H locs) (hC0 : gC E Gz s.heap) (hnm : meth.name = "<init>") (hv : cPutR G [15] a 3 v = some G1) (kk : ∀ (H1 : Heap) (locs1 : List Loc), gC E G1 H1 → va_S (gx_C E) s.heap H1 locs1 → WC E p l e R s m args below meth c H1 locs1 Q (F0 m (pc + 3) ls rest)) : WC E p l e R s m args below meth c H locs Q (F0 m pc ls (va_rf v :: .ref a :: rest)) := by
  unfold cPutR at hv
  split at hv
  · next ht =>
    cases hv
    have ht := List.mem_singleton.mp ht
    exact c_putv (ci := 14) (k := 3) (v := va_rf v) (G' := cSetR G a 3 v) hdg (Or.inl q1027) rfl in_X8 tyX8_ok nmX8 (by decide) (Or.inl rfl) (by decide) (Or.inr ⟨hnm, rfl, q1027⟩) (tyX8_ok 3 (by decide)) (c_narR v (Or.inr ⟨_, rfl⟩)).1 (c_narR v (Or.inr ⟨_, rfl⟩)).2 S hE hG hS ht (by decide) rfl rfl rfl rfl rfl rfl c_othR (c_hvR (fun _ _ _ => rfl)) hC0.2.2.2.2.2 kk
  · cases hv
theorem cg_X8_28 {a : Nat} {v : Nat} (hdg : decode cc pc = .ok (.getfield 28, 3)) (S : CallFix p m c cc nL s args lw_all RX8) (hE : gEnv E s) (hG : gC E G H) (hv : cGetR G [15] a 4 = some v) (kk : W p l e R s m args below meth c H locs cells slots Q (F0 m (pc + 3) ls (.ref v :: rest))) : W p l e R s m args below meth c H locs cells slots Q (F0 m pc ls (.ref a :: rest)) := by
  unfold cGetR at hv
  split at hv
  · next ht =>
    have ht := List.mem_singleton.mp ht
    exact c_getv (ci := 14) (k := 4) hdg (Or.inl q1028) rfl in_X8 (by decide) (by decide) (Or.inl rfl) (by show va_rf (cR G a 4) = _; rw [hv]; rfl) S hE hG ht kk
  · cases hv
theorem cp_X8_28i {a : Nat} {v : Option Nat} (hdg : decode cc pc = .ok (.putfield 28, 3)) (S : CallFix p m c cc nL s args lw_all RX8) (hE : gEnv E s) (hG : gC E G H) (hS : va_S (gx_C E) s.heap H locs) (hC0 : gC E Gz s.heap) (hnm : meth.name = "<init>") (hv : cPutR G [15] a 4 v = some G1) (kk : ∀ (H1 : Heap) (locs1 : List Loc), gC E G1 H1 → va_S (gx_C E) s.heap H1 locs1 → WC E p l e R s m args below meth c H1 locs1 Q (F0 m (pc + 3) ls rest)) : WC E p l e R s m args below meth c H locs Q (F0 m pc ls (va_rf v :: .ref a :: rest)) := by
  unfold cPutR at hv
  split at hv
  · next ht =>
    cases hv
    have ht := List.mem_singleton.mp ht
    exact c_putv (ci := 14) (k := 4) (v := va_rf v) (G' := cSetR G a 4 v) hdg (Or.inl q1028) rfl in_X8 tyX8_ok nmX8 (by decide) (Or.inl rfl) (by decide) (Or.inr ⟨hnm, rfl, q1028⟩) (tyX8_ok 4 (by decide)) (c_narR v (Or.inr ⟨_, rfl⟩)).1 (c_narR v (Or.inr ⟨_, rfl⟩)).2 S hE hG hS ht (by decide) rfl rfl rfl rfl rfl rfl c_othR (c_hvR (fun _ _ _ => rfl)) hC0.2.2.2.2.2 kk
  · cases hv
theorem cg_X8_31 {a : Nat} {v : Nat} (hdg : decode cc pc = .ok (.getfield 31, 3)) (S : CallFix p m c cc nL s args lw_all RX8) (hE : gEnv E s) (hG : gC E G H) (hv : cGetR G [15] a 5 = some v) (kk : W p l e R s m args below meth c H locs cells slots Q (F0 m (pc + 3) ls (.ref v :: rest))) : W p l e R s m args below meth c H locs cells slots Q (F0 m pc ls (.ref a :: rest)) := by
  unfold cGetR at hv
  split at hv
  · next ht =>
    have ht := List.mem_singleton.mp ht
    exact c_getv (ci := 14) (k := 5) hdg (Or.inl q1029) rfl in_X8 (by decide) (by decide) (Or.inl rfl) (by show va_rf (cR G a 5) = _; rw [hv]; rfl) S hE hG ht kk
  · cases hv
theorem cp_X8_31i {a : Nat} {v : Option Nat} (hdg : decode cc pc = .ok (.putfield 31, 3)) (S : CallFix p m c cc nL s args lw_all RX8) (hE : gEnv E s) (hG : gC E G H) (hS : va_S (gx_C E) s.heap H locs) (hC0 : gC E Gz s.heap) (hnm : meth.name = "<init>") (hv : cPutR G [15] a 5 v = some G1) (kk : ∀ (H1 : Heap) (locs1 : List Loc), gC E G1 H1 → va_S (gx_C E) s.heap H1 locs1 → WC E p l e R s m args below meth c H1 locs1 Q (F0 m (pc + 3) ls rest)) : WC E p l e R s m args below meth c H locs Q (F0 m pc ls (va_rf v :: .ref a :: rest)) := by
  unfold cPutR at hv
  split at hv
  · next ht =>
    cases hv
    have ht := List.mem_singleton.mp ht
    exact c_putv (ci := 14) (k := 5) (v := va_rf v) (G' := cSetR G a 5 v) hdg (Or.inl q1029) rfl in_X8 tyX8_ok nmX8 (by decide) (Or.inl rfl) (by decide) (Or.inr ⟨hnm, rfl, q1029⟩) (tyX8_ok 5 (by decide)) (c_narR v (Or.inr ⟨_, rfl⟩)).1 (c_narR v (Or.inr ⟨_, rfl⟩)).2 S hE hG hS ht (by decide) rfl rfl rfl rfl rfl rfl c_othR (c_hvR (fun _ _ _ => rfl)) hC0.2.2.2.2.2 kk
  · cases hv
theorem cg_X8_43 {a : Nat} {v : Int32} (hdg : decode cc pc = .ok (.getfield 43, 3)) (S : CallFix p m c cc nL s args lw_all RX8) (hE : gEnv E s) (hG : gC E G H) (hv : cGetI G [15] a 7 = some v) (kk : W p l e R s m args below meth c H locs cells slots Q (F0 m (pc + 3) ls (.int v :: rest))) : W p l e R s m args below meth c H locs cells slots Q (F0 m pc ls (.ref a :: rest)) := by
  unfold cGetI at hv
  split at hv
  · next ht =>
    cases hv
    have ht := List.mem_singleton.mp ht
    exact c_getv (ci := 14) (k := 7) hdg (Or.inl q1031) rfl in_X8 (by decide) (by decide) (Or.inl rfl) rfl S hE hG ht kk
  · cases hv
theorem cp_X8_43 {a : Nat} {v : Int32} (hdg : decode cc pc = .ok (.putfield 43, 3)) (S : CallFix p m c cc nL s args lw_all RX8) (hE : gEnv E s) (hG : gC E G H) (hS : va_S (gx_C E) s.heap H locs) (hC0 : gC E Gz s.heap) (hv : cPutI G [15] a 7 v = some G1) (kk : ∀ (H1 : Heap) (locs1 : List Loc), gC E G1 H1 → va_S (gx_C E) s.heap H1 locs1 → WC E p l e R s m args below meth c H1 locs1 Q (F0 m (pc + 3) ls rest)) : WC E p l e R s m args below meth c H locs Q (F0 m pc ls (.int v :: .ref a :: rest)) := by
  unfold cPutI at hv
  split at hv
  · next ht =>
    cases hv
    have ht := List.mem_singleton.mp ht
    exact c_putv (ci := 14) (k := 7) (v := .int v) (G' := cSetI G a 7 v) hdg (Or.inl q1031) rfl in_X8 tyX8_ok nmX8 (by decide) (Or.inl rfl) (by decide) (Or.inl rfl) (tyX8_ok 7 (by decide)) rfl rfl S hE hG hS ht (by decide) rfl rfl rfl rfl rfl rfl c_othI (c_hvI (fun _ _ _ => rfl)) hC0.2.2.2.2.2 kk
  · cases hv
theorem cg_X8_53 {a : Nat} {v : Int32} (hdg : decode cc pc = .ok (.getfield 53, 3)) (S : CallFix p m c cc nL s args lw_all RX8) (hE : gEnv E s) (hG : gC E G H) (hv : cGetI G [15] a 6 = some v) (kk : W p l e R s m args below meth c H locs cells slots Q (F0 m (pc + 3) ls (.int v :: rest))) : W p l e R s m args below meth c H locs cells slots Q (F0 m pc ls (.ref a :: rest)) := by
  unfold cGetI at hv
  split at hv
  · next ht =>
    cases hv
    have ht := List.mem_singleton.mp ht
    exact c_getv (ci := 14) (k := 6) hdg (Or.inl q1030) rfl in_X8 (by decide) (by decide) (Or.inl rfl) rfl S hE hG ht kk
  · cases hv
theorem cp_X8_53 {a : Nat} {v : Int32} (hdg : decode cc pc = .ok (.putfield 53, 3)) (S : CallFix p m c cc nL s args lw_all RX8) (hE : gEnv E s) (hG : gC E G H) (hS : va_S (gx_C E) s.heap H locs) (hC0 : gC E Gz s.heap) (hv : cPutI G [15] a 6 v = some G1) (kk : ∀ (H1 : Heap) (locs1 : List Loc), gC E G1 H1 → va_S (gx_C E) s.heap H1 locs1 → WC E p l e R s m args below meth c H1 locs1 Q (F0 m (pc + 3) ls rest)) : WC E p l e R s m args below meth c H locs Q (F0 m pc ls (.int v :: .ref a :: rest)) := by
  unfold cPutI at hv
  split at hv
  · next ht =>
    cases hv
    have ht := List.mem_singleton.mp ht
    exact c_putv (ci := 14) (k := 6) (v := .int v) (G' := cSetI G a 6 v) hdg (Or.inl q1030) rfl in_X8 tyX8_ok nmX8 (by decide) (Or.inl rfl) (by decide) (Or.inl rfl) (tyX8_ok 6 (by decide)) rfl rfl S hE hG hS ht (by decide) rfl rfl rfl rfl rfl rfl c_othI (c_hvI (fun _ _ _ => rfl)) hC0.2.2.2.2.2 kk
  · cases hv
theorem cp_X8_56 {a : Nat} {v : Int32} (hdg : decode cc pc = .ok (.putfield 56, 3)) (S : CallFix p m c cc nL s args lw_all RX8) (hE : gEnv E s) (hG : gC E G H) (hS : va_S (gx_C E) s.heap H locs) (hC0 : gC E Gz s.heap) (hv : cPutZ G [15] a 12 v = some G1) (kk : ∀ (H1 : Heap) (locs1 : List Loc), gC E G1 H1 → va_S (gx_C E) s.heap H1 locs1 → WC E p l e R s m args below meth c H1 locs1 Q (F0 m (pc + 3) ls rest)) : WC E p l e R s m args below meth c H locs Q (F0 m pc ls (.int v :: .ref a :: rest)) := by
  unfold cPutZ at hv
  split at hv
  · next ht =>
    obtain ⟨ht, h01⟩ := ht
    cases hv
    have ht := List.mem_singleton.mp ht
    exact c_putv (ci := 14) (k := 12) (v := .int v) (G' := cSetI G a 12 v) hdg (Or.inl q1041) rfl in_X8 tyX8_ok nmX8 (by decide) (Or.inl rfl) (by decide) (Or.inl rfl) (tyX8_ok 12 (by decide)) (by rcases h01 with rfl | rfl <;> decide) (by rcases h01 with rfl | rfl <;> decide) S hE hG hS ht (by decide) rfl rfl rfl rfl rfl rfl c_othI (c_hvI (fun _ _ _ => rfl)) hC0.2.2.2.2.2 kk
  · cases hv
theorem cp_X8_60 {a : Nat} {v : Int32} (hdg : decode cc pc = .ok (.putfield 60, 3)) (S : CallFix p m c cc nL s args lw_all RX8) (hE : gEnv E s) (hG : gC E G H) (hS : va_S (gx_C E) s.heap H locs) (hC0 : gC E Gz s.heap) (hv : cPutI G [15] a 9 v = some G1) (kk : ∀ (H1 : Heap) (locs1 : List Loc), gC E G1 H1 → va_S (gx_C E) s.heap H1 locs1 → WC E p l e R s m args below meth c H1 locs1 Q (F0 m (pc + 3) ls rest)) : WC E p l e R s m args below meth c H locs Q (F0 m pc ls (.int v :: .ref a :: rest)) := by
  unfold cPutI at hv
  split at hv
  · next ht =>
    cases hv
    have ht := List.mem_singleton.mp ht
    exact c_putv (ci := 14) (k := 9) (v := .int v) (G' := cSetI G a 9 v) hdg (Or.inl q1035) rfl in_X8 tyX8_ok nmX8 (by decide) (Or.inl rfl) (by decide) (Or.inl rfl) (tyX8_ok 9 (by decide)) rfl rfl S hE hG hS ht (by decide) rfl rfl rfl rfl rfl rfl c_othI (c_hvI (fun _ _ _ => rfl)) hC0.2.2.2.2.2 kk
  · cases hv
theorem cg_X8_63 {a : Nat} {v : Int32} (hdg : decode cc pc = .ok (.getfield 63, 3)) (S : CallFix p m c cc nL s args lw_all RX8) (hE : gEnv E s) (hG : gC E G H) (hv : cGetI G [15] a 10 = some v) (kk : W p l e R s m args below meth c H locs cells slots Q (F0 m (pc + 3) ls (.int v :: rest))) : W p l e R s m args below meth c H locs cells slots Q (F0 m pc ls (.ref a :: rest)) := by
  unfold cGetI at hv
  split at hv
  · next ht =>
    cases hv
    have ht := List.mem_singleton.mp ht
    exact c_getv (ci := 14) (k := 10) hdg (Or.inl q1037) rfl in_X8 (by decide) (by decide) (Or.inl rfl) rfl S hE hG ht kk
  · cases hv
theorem cp_X8_63 {a : Nat} {v : Int32} (hdg : decode cc pc = .ok (.putfield 63, 3)) (S : CallFix p m c cc nL s args lw_all RX8) (hE : gEnv E s) (hG : gC E G H) (hS : va_S (gx_C E) s.heap H locs) (hC0 : gC E Gz s.heap) (hv : cPutI G [15] a 10 v = some G1) (kk : ∀ (H1 : Heap) (locs1 : List Loc), gC E G1 H1 → va_S (gx_C E) s.heap H1 locs1 → WC E p l e R s m args below meth c H1 locs1 Q (F0 m (pc + 3) ls rest)) : WC E p l e R s m args below meth c H locs Q (F0 m pc ls (.int v :: .ref a :: rest)) := by
  unfold cPutI at hv
  split at hv
  · next ht =>
    cases hv
    have ht := List.mem_singleton.mp ht
    exact c_putv (ci := 14) (k := 10) (v := .int v) (G' := cSetI G a 10 v) hdg (Or.inl q1037) rfl in_X8 tyX8_ok nmX8 (by decide) (Or.inl rfl) (by decide) (Or.inl rfl) (tyX8_ok 10 (by decide)) rfl rfl S hE hG hS ht (by decide) rfl rfl rfl rfl rfl rfl c_othI (c_hvI (fun _ _ _ => rfl)) hC0.2.2.2.2.2 kk
  · cases hv
theorem cp_X8_66 {a : Nat} {v : Int32} (hdg : decode cc pc = .ok (.putfield 66, 3)) (S : CallFix p m c cc nL s args lw_all RX8) (hE : gEnv E s) (hG : gC E G H) (hS : va_S (gx_C E) s.heap H locs) (hC0 : gC E Gz s.heap) (hv : cPutI G [15] a 11 v = some G1) (kk : ∀ (H1 : Heap) (locs1 : List Loc), gC E G1 H1 → va_S (gx_C E) s.heap H1 locs1 → WC E p l e R s m args below meth c H1 locs1 Q (F0 m (pc + 3) ls rest)) : WC E p l e R s m args below meth c H locs Q (F0 m pc ls (.int v :: .ref a :: rest)) := by
  unfold cPutI at hv
  split at hv
  · next ht =>
    cases hv
    have ht := List.mem_singleton.mp ht
    exact c_putv (ci := 14) (k := 11) (v := .int v) (G' := cSetI G a 11 v) hdg (Or.inl q1039) rfl in_X8 tyX8_ok nmX8 (by decide) (Or.inl rfl) (by decide) (Or.inl rfl) (tyX8_ok 11 (by decide)) rfl rfl S hE hG hS ht (by decide) rfl rfl rfl rfl rfl rfl c_othI (c_hvI (fun _ _ _ => rfl)) hC0.2.2.2.2.2 kk
  · cases hv
theorem cg_X8_73 {a : Nat} {v : Int32} (hdg : decode cc pc = .ok (.getfield 73, 3)) (S : CallFix p m c cc nL s args lw_all RX8) (hE : gEnv E s) (hG : gC E G H) (hv : cGetI G [29] a 0 = some v) (kk : W p l e R s m args below meth c H locs cells slots Q (F0 m (pc + 3) ls (.int v :: rest))) : W p l e R s m args below meth c H locs cells slots Q (F0 m pc ls (.ref a :: rest)) := by
  unfold cGetI at hv
  split at hv
  · next ht =>
    cases hv
    have ht := List.mem_singleton.mp ht
    exact c_getv (ci := 28) (k := 0) hdg (Or.inr ⟨_, lw_nw q1480 rfl⟩) rfl in_X22 (by decide) (by decide) (Or.inl rfl) rfl S hE hG ht kk
  · cases hv
theorem cg_X8_76 {a : Nat} {v : Int32} (hdg : decode cc pc = .ok (.getfield 76, 3)) (S : CallFix p m c cc nL s args lw_all RX8) (hE : gEnv E s) (hG : gC E G H) (hv : cGetI G [29] a 5 = some v) (kk : W p l e R s m args below meth c H locs cells slots Q (F0 m (pc + 3) ls (.int v :: rest))) : W p l e R s m args below meth c H locs cells slots Q (F0 m pc ls (.ref a :: rest)) := by
  unfold cGetI at hv
  split at hv
  · next ht =>
    cases hv
    have ht := List.mem_singleton.mp ht
    exact c_getv (ci := 28) (k := 5) hdg (Or.inr ⟨_, lw_nw q1492 rfl⟩) rfl in_X22 (by decide) (by decide) (Or.inl rfl) rfl S hE hG ht kk
  · cases hv
theorem cg_X8_79 {a : Nat} {v : Int32} (hdg : decode cc pc = .ok (.getfield 79, 3)) (S : CallFix p m c cc nL s args lw_all RX8) (hE : gEnv E s) (hG : gC E G H) (hv : cGetI G [29] a 1 = some v) (kk : W p l e R s m args below meth c H locs cells slots Q (F0 m (pc + 3) ls (.int v :: rest))) : W p l e R s m args below meth c H locs cells slots Q (F0 m pc ls (.ref a :: rest)) := by
  unfold cGetI at hv
  split at hv
  · next ht =>
    cases hv
    have ht := List.mem_singleton.mp ht
    exact c_getv (ci := 28) (k := 1) hdg (Or.inr ⟨_, lw_nw q1484 rfl⟩) rfl in_X22 (by decide) (by decide) (Or.inl rfl) rfl S hE hG ht kk
  · cases hv
theorem cg_X33_12 {a : Nat} {v : Nat} (hdg : decode cc pc = .ok (.getfield 12, 3)) (S : CallFix p m c cc nL s args lw_all RX33) (hE : gEnv E s) (hG : gC E G H) (hv : cGetR G [38] a 1 = some v) (kk : W p l e R s m args below meth c H locs cells slots Q (F0 m (pc + 3) ls (.ref v :: rest))) : W p l e R s m args below meth c H locs cells slots Q (F0 m pc ls (.ref a :: rest)) := by
  unfold cGetR at hv
  split at hv
  · next ht =>
    have ht := List.mem_singleton.mp ht
    exact c_getv (ci := 37) (k := 1) hdg (Or.inl q1693) rfl in_X33 (by decide) (by decide) (Or.inl rfl) (by show va_rf (cR G a 1) = _; rw [hv]; rfl) S hE hG ht kk
  · cases hv
theorem cp_X33_12i {a : Nat} {v : Option Nat} (hdg : decode cc pc = .ok (.putfield 12, 3)) (S : CallFix p m c cc nL s args lw_all RX33) (hE : gEnv E s) (hG : gC E G H) (hS : va_S (gx_C E) s.heap H locs) (hC0 : gC E Gz s.heap) (hnm : meth.name = "<init>") (hv : cPutR G [38] a 1 v = some G1) (kk : ∀ (H1 : Heap) (locs1 : List Loc), gC E G1 H1 → va_S (gx_C E) s.heap H1 locs1 → WC E p l e R s m args below meth c H1 locs1 Q (F0 m (pc + 3) ls rest)) : WC E p l e R s m args below meth c H locs Q (F0 m pc ls (va_rf v :: .ref a :: rest)) := by
  unfold cPutR at hv
  split at hv
  · next ht =>
    cases hv
    have ht := List.mem_singleton.mp ht
    exact c_putv (ci := 37) (k := 1) (v := va_rf v) (G' := cSetR G a 1 v) hdg (Or.inl q1693) rfl in_X33 tyX33_ok nmX33 (by decide) (Or.inl rfl) (by decide) (Or.inr ⟨hnm, rfl, q1693⟩) (tyX33_ok 1 (by decide)) (c_narR v (Or.inl ⟨_, rfl⟩)).1 (c_narR v (Or.inl ⟨_, rfl⟩)).2 S hE hG hS ht (by decide) rfl rfl rfl rfl rfl rfl c_othR (c_hvR (fun _ _ _ => rfl)) hC0.2.2.2.2.2 kk
  · cases hv
theorem cg_X33_18 {a : Nat} {v : Int32} (hdg : decode cc pc = .ok (.getfield 18, 3)) (S : CallFix p m c cc nL s args lw_all RX33) (hE : gEnv E s) (hG : gC E G H) (hv : cGetI G [38] a 0 = some v) (kk : W p l e R s m args below meth c H locs cells slots Q (F0 m (pc + 3) ls (.int v :: rest))) : W p l e R s m args below meth c H locs cells slots Q (F0 m pc ls (.ref a :: rest)) := by
  unfold cGetI at hv
  split at hv
  · next ht =>
    cases hv
    have ht := List.mem_singleton.mp ht
    exact c_getv (ci := 37) (k := 0) hdg (Or.inl q1691) rfl in_X33 (by decide) (by decide) (Or.inl rfl) rfl S hE hG ht kk
  · cases hv
theorem cp_X33_18i {a : Nat} {v : Int32} (hdg : decode cc pc = .ok (.putfield 18, 3)) (S : CallFix p m c cc nL s args lw_all RX33) (hE : gEnv E s) (hG : gC E G H) (hS : va_S (gx_C E) s.heap H locs) (hC0 : gC E Gz s.heap) (hnm : meth.name = "<init>") (hv : cPutZ G [38] a 0 v = some G1) (kk : ∀ (H1 : Heap) (locs1 : List Loc), gC E G1 H1 → va_S (gx_C E) s.heap H1 locs1 → WC E p l e R s m args below meth c H1 locs1 Q (F0 m (pc + 3) ls rest)) : WC E p l e R s m args below meth c H locs Q (F0 m pc ls (.int v :: .ref a :: rest)) := by
  unfold cPutZ at hv
  split at hv
  · next ht =>
    obtain ⟨ht, h01⟩ := ht
    cases hv
    have ht := List.mem_singleton.mp ht
    exact c_putv (ci := 37) (k := 0) (v := .int v) (G' := cSetI G a 0 v) hdg (Or.inl q1691) rfl in_X33 tyX33_ok nmX33 (by decide) (Or.inl rfl) (by decide) (Or.inr ⟨hnm, rfl, q1691⟩) (tyX33_ok 0 (by decide)) (by rcases h01 with rfl | rfl <;> decide) (by rcases h01 with rfl | rfl <;> decide) S hE hG hS ht (by decide) rfl rfl rfl rfl rfl rfl c_othI (c_hvI (fun _ _ _ => rfl)) hC0.2.2.2.2.2 kk
  · cases hv
theorem cg_X33_34 {a : Nat} {v : Int32} (hdg : decode cc pc = .ok (.getfield 34, 3)) (S : CallFix p m c cc nL s args lw_all RX33) (hE : gEnv E s) (hG : gC E G H) (hv : cGetI G [9] a 7 = some v) (kk : W p l e R s m args below meth c H locs cells slots Q (F0 m (pc + 3) ls (.int v :: rest))) : W p l e R s m args below meth c H locs cells slots Q (F0 m pc ls (.ref a :: rest)) := by
  unfold cGetI at hv
  split at hv
  · next ht =>
    cases hv
    have ht := List.mem_singleton.mp ht
    exact c_getv (ci := 8) (k := 7) hdg (Or.inr ⟨_, lw_nw q197 rfl⟩) rfl in_X1 (by decide) (by decide) (Or.inl rfl) rfl S hE hG ht kk
  · cases hv
theorem cg_X37_7 {a : Nat} {v : Int32} (hdg : decode cc pc = .ok (.getfield 7, 3)) (S : CallFix p m c cc nL s args lw_all RX37) (hE : gEnv E s) (hG : gC E G H) (hv : cGetI G [22] a 0 = some v) (kk : W p l e R s m args below meth c H locs cells slots Q (F0 m (pc + 3) ls (.int v :: rest))) : W p l e R s m args below meth c H locs cells slots Q (F0 m pc ls (.ref a :: rest)) := by
  unfold cGetI at hv
  split at hv
  · next ht =>
    cases hv
    have ht := List.mem_singleton.mp ht
    exact c_getv (ci := 21) (k := 0) hdg (Or.inr ⟨_, lw_nw q1240 rfl⟩) rfl in_X15 (by decide) (by decide) (Or.inl rfl) rfl S hE hG ht kk
  · cases hv
theorem cp_X9_7i {a : Nat} {v : Int32} (hdg : decode cc pc = .ok (.putfield 7, 3)) (S : CallFix p m c cc nL s args lw_all RX9) (hE : gEnv E s) (hG : gC E G H) (hS : va_S (gx_C E) s.heap H locs) (hC0 : gC E Gz s.heap) (hnm : meth.name = "<init>") (hv : cPutI G [16] a 0 v = some G1) (kk : ∀ (H1 : Heap) (locs1 : List Loc), gC E G1 H1 → va_S (gx_C E) s.heap H1 locs1 → WC E p l e R s m args below meth c H1 locs1 Q (F0 m (pc + 3) ls rest)) : WC E p l e R s m args below meth c H locs Q (F0 m pc ls (.int v :: .ref a :: rest)) := by
  unfold cPutI at hv
  split at hv
  · next ht =>
    cases hv
    have ht := List.mem_singleton.mp ht
    exact c_putv (ci := 15) (k := 0) (v := .int v) (G' := cSetI G a 0 v) hdg (Or.inl q1076) rfl in_X9 tyX9_ok nmX9 (by decide) (Or.inl rfl) (by decide) (Or.inr ⟨hnm, rfl, q1076⟩) (tyX9_ok 0 (by decide)) rfl rfl S hE hG hS ht (by decide) rfl rfl rfl rfl rfl rfl c_othI (c_hvI (fun _ _ _ => rfl)) hC0.2.2.2.2.2 kk
  · cases hv
theorem cp_X9_13i {a : Nat} {v : Int32} (hdg : decode cc pc = .ok (.putfield 13, 3)) (S : CallFix p m c cc nL s args lw_all RX9) (hE : gEnv E s) (hG : gC E G H) (hS : va_S (gx_C E) s.heap H locs) (hC0 : gC E Gz s.heap) (hnm : meth.name = "<init>") (hv : cPutI G [16] a 1 v = some G1) (kk : ∀ (H1 : Heap) (locs1 : List Loc), gC E G1 H1 → va_S (gx_C E) s.heap H1 locs1 → WC E p l e R s m args below meth c H1 locs1 Q (F0 m (pc + 3) ls rest)) : WC E p l e R s m args below meth c H locs Q (F0 m pc ls (.int v :: .ref a :: rest)) := by
  unfold cPutI at hv
  split at hv
  · next ht =>
    cases hv
    have ht := List.mem_singleton.mp ht
    exact c_putv (ci := 15) (k := 1) (v := .int v) (G' := cSetI G a 1 v) hdg (Or.inl q1078) rfl in_X9 tyX9_ok nmX9 (by decide) (Or.inl rfl) (by decide) (Or.inr ⟨hnm, rfl, q1078⟩) (tyX9_ok 1 (by decide)) rfl rfl S hE hG hS ht (by decide) rfl rfl rfl rfl rfl rfl c_othI (c_hvI (fun _ _ _ => rfl)) hC0.2.2.2.2.2 kk
  · cases hv
theorem cg_X9_16 {a : Nat} {v : Int32} (hdg : decode cc pc = .ok (.getfield 16, 3)) (S : CallFix p m c cc nL s args lw_all RX9) (hE : gEnv E s) (hG : gC E G H) (hv : cGetI G [16] a 2 = some v) (kk : W p l e R s m args below meth c H locs cells slots Q (F0 m (pc + 3) ls (.int v :: rest))) : W p l e R s m args below meth c H locs cells slots Q (F0 m pc ls (.ref a :: rest)) := by
  unfold cGetI at hv
  split at hv
  · next ht =>
    cases hv
    have ht := List.mem_singleton.mp ht
    exact c_getv (ci := 15) (k := 2) hdg (Or.inl q1081) rfl in_X9 (by decide) (by decide) (Or.inl rfl) rfl S hE hG ht kk
  · cases hv
theorem cp_X9_16 {a : Nat} {v : Int32} (hdg : decode cc pc = .ok (.putfield 16, 3)) (S : CallFix p m c cc nL s args lw_all RX9) (hE : gEnv E s) (hG : gC E G H) (hS : va_S (gx_C E) s.heap H locs) (hC0 : gC E Gz s.heap) (hv : cPutI G [16] a 2 v = some G1) (kk : ∀ (H1 : Heap) (locs1 : List Loc), gC E G1 H1 → va_S (gx_C E) s.heap H1 locs1 → WC E p l e R s m args below meth c H1 locs1 Q (F0 m (pc + 3) ls rest)) : WC E p l e R s m args below meth c H locs Q (F0 m pc ls (.int v :: .ref a :: rest)) := by
  unfold cPutI at hv
  split at hv
  · next ht =>
    cases hv
    have ht := List.mem_singleton.mp ht
    exact c_putv (ci := 15) (k := 2) (v := .int v) (G' := cSetI G a 2 v) hdg (Or.inl q1081) rfl in_X9 tyX9_ok nmX9 (by decide) (Or.inl rfl) (by decide) (Or.inl rfl) (tyX9_ok 2 (by decide)) rfl rfl S hE hG hS ht (by decide) rfl rfl rfl rfl rfl rfl c_othI (c_hvI (fun _ _ _ => rfl)) hC0.2.2.2.2.2 kk
  · cases hv
theorem cg_X9_19 {a : Nat} {v : Int32} (hdg : decode cc pc = .ok (.getfield 19, 3)) (S : CallFix p m c cc nL s args lw_all RX9) (hE : gEnv E s) (hG : gC E G H) (hv : cGetI G [16] a 3 = some v) (kk : W p l e R s m args below meth c H locs cells slots Q (F0 m (pc + 3) ls (.int v :: rest))) : W p l e R s m args below meth c H locs cells slots Q (F0 m pc ls (.ref a :: rest)) := by
  unfold cGetI at hv
  split at hv
  · next ht =>
    cases hv
    have ht := List.mem_singleton.mp ht
    exact c_getv (ci := 15) (k := 3) hdg (Or.inl q1086) rfl in_X9 (by decide) (by decide) (Or.inl rfl) rfl S hE hG ht kk
  · cases hv
theorem cg_X20_12 {a : Nat} {v : Nat} (hdg : decode cc pc = .ok (.getfield 12, 3)) (S : CallFix p m c cc nL s args lw_all RX20) (hE : gEnv E s) (hG : gC E G H) (hv : cGetR G [27] a 7 = some v) (kk : W p l e R s m args below meth c H locs cells slots Q (F0 m (pc + 3) ls (.ref v :: rest))) : W p l e R s m args below meth c H locs cells slots Q (F0 m pc ls (.ref a :: rest)) := by
  unfold cGetR at hv
  split at hv
  · next ht =>
    have ht := List.mem_singleton.mp ht
    exact c_getv (ci := 26) (k := 7) hdg (Or.inl q1361) rfl in_X20 (by decide) (by decide) (Or.inl rfl) (by show va_rf (cR G a 7) = _; rw [hv]; rfl) S hE hG ht kk
  · cases hv
theorem cp_X20_12i {a : Nat} {v : Option Nat} (hdg : decode cc pc = .ok (.putfield 12, 3)) (S : CallFix p m c cc nL s args lw_all RX20) (hE : gEnv E s) (hG : gC E G H) (hS : va_S (gx_C E) s.heap H locs) (hC0 : gC E Gz s.heap) (hnm : meth.name = "<init>") (hv : cPutR G [27] a 7 v = some G1) (kk : ∀ (H1 : Heap) (locs1 : List Loc), gC E G1 H1 → va_S (gx_C E) s.heap H1 locs1 → WC E p l e R s m args below meth c H1 locs1 Q (F0 m (pc + 3) ls rest)) : WC E p l e R s m args below meth c H locs Q (F0 m pc ls (va_rf v :: .ref a :: rest)) := by
  unfold cPutR at hv
  split at hv
  · next ht =>
    cases hv
    have ht := List.mem_singleton.mp ht
    exact c_putv (ci := 26) (k := 7) (v := va_rf v) (G' := cSetR G a 7 v) hdg (Or.inl q1361) rfl in_X20 tyX20_ok nmX20 (by decide) (Or.inl rfl) (by decide) (Or.inr ⟨hnm, rfl, q1361⟩) (tyX20_ok 7 (by decide)) (c_narR v (Or.inl ⟨_, rfl⟩)).1 (c_narR v (Or.inl ⟨_, rfl⟩)).2 S hE hG hS ht (by decide) rfl rfl rfl rfl rfl rfl c_othR (c_hvR (fun _ _ _ => rfl)) hC0.2.2.2.2.2 kk
  · cases hv
theorem cg_X20_23 {a : Nat} {v : Nat} (hdg : decode cc pc = .ok (.getfield 23, 3)) (S : CallFix p m c cc nL s args lw_all RX20) (hE : gEnv E s) (hG : gC E G H) (hv : cGetR G [27] a 3 = some v) (kk : W p l e R s m args below meth c H locs cells slots Q (F0 m (pc + 3) ls (.ref v :: rest))) : W p l e R s m args below meth c H locs cells slots Q (F0 m pc ls (.ref a :: rest)) := by
  unfold cGetR at hv
  split at hv
  · next ht =>
    have ht := List.mem_singleton.mp ht
    exact c_getv (ci := 26) (k := 3) hdg (Or.inl q1357) rfl in_X20 (by decide) (by decide) (Or.inl rfl) (by show va_rf (cR G a 3) = _; rw [hv]; rfl) S hE hG ht kk
  · cases hv
theorem cp_X20_23i {a : Nat} {v : Option Nat} (hdg : decode cc pc = .ok (.putfield 23, 3)) (S : CallFix p m c cc nL s args lw_all RX20) (hE : gEnv E s) (hG : gC E G H) (hS : va_S (gx_C E) s.heap H locs) (hC0 : gC E Gz s.heap) (hnm : meth.name = "<init>") (hv : cPutR G [27] a 3 v = some G1) (kk : ∀ (H1 : Heap) (locs1 : List Loc), gC E G1 H1 → va_S (gx_C E) s.heap H1 locs1 → WC E p l e R s m args below meth c H1 locs1 Q (F0 m (pc + 3) ls rest)) : WC E p l e R s m args below meth c H locs Q (F0 m pc ls (va_rf v :: .ref a :: rest)) := by
  unfold cPutR at hv
  split at hv
  · next ht =>
    cases hv
    have ht := List.mem_singleton.mp ht
    exact c_putv (ci := 26) (k := 3) (v := va_rf v) (G' := cSetR G a 3 v) hdg (Or.inl q1357) rfl in_X20 tyX20_ok nmX20 (by decide) (Or.inl rfl) (by decide) (Or.inr ⟨hnm, rfl, q1357⟩) (tyX20_ok 3 (by decide)) (c_narR v (Or.inl ⟨_, rfl⟩)).1 (c_narR v (Or.inl ⟨_, rfl⟩)).2 S hE hG hS ht (by decide) rfl rfl rfl rfl rfl rfl c_othR (c_hvR (fun _ _ _ => rfl)) hC0.2.2.2.2.2 kk
  · cases hv
theorem cg_X20_30 {a : Nat} {v : Nat} (hdg : decode cc pc = .ok (.getfield 30, 3)) (S : CallFix p m c cc nL s args lw_all RX20) (hE : gEnv E s) (hG : gC E G H) (hv : cGetR G [27] a 4 = some v) (kk : W p l e R s m args below meth c H locs cells slots Q (F0 m (pc + 3) ls (.ref v :: rest))) : W p l e R s m args below meth c H locs cells slots Q (F0 m pc ls (.ref a :: rest)) := by
  unfold cGetR at hv
  split at hv
  · next ht =>
    have ht := List.mem_singleton.mp ht
    exact c_getv (ci := 26) (k := 4) hdg (Or.inl q1358) rfl in_X20 (by decide) (by decide) (Or.inl rfl) (by show va_rf (cR G a 4) = _; rw [hv]; rfl) S hE hG ht kk
  · cases hv
theorem cp_X20_30i {a : Nat} {v : Option Nat} (hdg : decode cc pc = .ok (.putfield 30, 3)) (S : CallFix p m c cc nL s args lw_all RX20) (hE : gEnv E s) (hG : gC E G H) (hS : va_S (gx_C E) s.heap H locs) (hC0 : gC E Gz s.heap) (hnm : meth.name = "<init>") (hv : cPutR G [27] a 4 v = some G1) (kk : ∀ (H1 : Heap) (locs1 : List Loc), gC E G1 H1 → va_S (gx_C E) s.heap H1 locs1 → WC E p l e R s m args below meth c H1 locs1 Q (F0 m (pc + 3) ls rest)) : WC E p l e R s m args below meth c H locs Q (F0 m pc ls (va_rf v :: .ref a :: rest)) := by
  unfold cPutR at hv
  split at hv
  · next ht =>
    cases hv
    have ht := List.mem_singleton.mp ht
    exact c_putv (ci := 26) (k := 4) (v := va_rf v) (G' := cSetR G a 4 v) hdg (Or.inl q1358) rfl in_X20 tyX20_ok nmX20 (by decide) (Or.inl rfl) (by decide) (Or.inr ⟨hnm, rfl, q1358⟩) (tyX20_ok 4 (by decide)) (c_narR v (Or.inl ⟨_, rfl⟩)).1 (c_narR v (Or.inl ⟨_, rfl⟩)).2 S hE hG hS ht (by decide) rfl rfl rfl rfl rfl rfl c_othR (c_hvR (fun _ _ _ => rfl)) hC0.2.2.2.2.2 kk
  · cases hv
theorem cg_X20_37 {a : Nat} {v : Nat} (hdg : decode cc pc = .ok (.getfield 37, 3)) (S : CallFix p m c cc nL s args lw_all RX20) (hE : gEnv E s) (hG : gC E G H) (hv : cGetR G [27] a 5 = some v) (kk : W p l e R s m args below meth c H locs cells slots Q (F0 m (pc + 3) ls (.ref v :: rest))) : W p l e R s m args below meth c H locs cells slots Q (F0 m pc ls (.ref a :: rest)) := by
  unfold cGetR at hv
  split at hv
  · next ht =>
    have ht := List.mem_singleton.mp ht
    exact c_getv (ci := 26) (k := 5) hdg (Or.inl q1359) rfl in_X20 (by decide) (by decide) (Or.inl rfl) (by show va_rf (cR G a 5) = _; rw [hv]; rfl) S hE hG ht kk
  · cases hv
theorem cp_X20_37i {a : Nat} {v : Option Nat} (hdg : decode cc pc = .ok (.putfield 37, 3)) (S : CallFix p m c cc nL s args lw_all RX20) (hE : gEnv E s) (hG : gC E G H) (hS : va_S (gx_C E) s.heap H locs) (hC0 : gC E Gz s.heap) (hnm : meth.name = "<init>") (hv : cPutR G [27] a 5 v = some G1) (kk : ∀ (H1 : Heap) (locs1 : List Loc), gC E G1 H1 → va_S (gx_C E) s.heap H1 locs1 → WC E p l e R s m args below meth c H1 locs1 Q (F0 m (pc + 3) ls rest)) : WC E p l e R s m args below meth c H locs Q (F0 m pc ls (va_rf v :: .ref a :: rest)) := by
  unfold cPutR at hv
  split at hv
  · next ht =>
    cases hv
    have ht := List.mem_singleton.mp ht
    exact c_putv (ci := 26) (k := 5) (v := va_rf v) (G' := cSetR G a 5 v) hdg (Or.inl q1359) rfl in_X20 tyX20_ok nmX20 (by decide) (Or.inl rfl) (by decide) (Or.inr ⟨hnm, rfl, q1359⟩) (tyX20_ok 5 (by decide)) (c_narR v (Or.inl ⟨_, rfl⟩)).1 (c_narR v (Or.inl ⟨_, rfl⟩)).2 S hE hG hS ht (by decide) rfl rfl rfl rfl rfl rfl c_othR (c_hvR (fun _ _ _ => rfl)) hC0.2.2.2.2.2 kk
  · cases hv
theorem cg_X20_44 {a : Nat} {v : Nat} (hdg : decode cc pc = .ok (.getfield 44, 3)) (S : CallFix p m c cc nL s args lw_all RX20) (hE : gEnv E s) (hG : gC E G H) (hv : cGetR G [27] a 6 = some v) (kk : W p l e R s m args below meth c H locs cells slots Q (F0 m (pc + 3) ls (.ref v :: rest))) : W p l e R s m args below meth c H locs cells slots Q (F0 m pc ls (.ref a :: rest)) := by
  unfold cGetR at hv
  split at hv
  · next ht =>
    have ht := List.mem_singleton.mp ht
    exact c_getv (ci := 26) (k := 6) hdg (Or.inl q1360) rfl in_X20 (by decide) (by decide) (Or.inl rfl) (by show va_rf (cR G a 6) = _; rw [hv]; rfl) S hE hG ht kk
  · cases hv
theorem cp_X20_44i {a : Nat} {v : Option Nat} (hdg : decode cc pc = .ok (.putfield 44, 3)) (S : CallFix p m c cc nL s args lw_all RX20) (hE : gEnv E s) (hG : gC E G H) (hS : va_S (gx_C E) s.heap H locs) (hC0 : gC E Gz s.heap) (hnm : meth.name = "<init>") (hv : cPutR G [27] a 6 v = some G1) (kk : ∀ (H1 : Heap) (locs1 : List Loc), gC E G1 H1 → va_S (gx_C E) s.heap H1 locs1 → WC E p l e R s m args below meth c H1 locs1 Q (F0 m (pc + 3) ls rest)) : WC E p l e R s m args below meth c H locs Q (F0 m pc ls (va_rf v :: .ref a :: rest)) := by
  unfold cPutR at hv
  split at hv
  · next ht =>
    cases hv
    have ht := List.mem_singleton.mp ht
    exact c_putv (ci := 26) (k := 6) (v := va_rf v) (G' := cSetR G a 6 v) hdg (Or.inl q1360) rfl in_X20 tyX20_ok nmX20 (by decide) (Or.inl rfl) (by decide) (Or.inr ⟨hnm, rfl, q1360⟩) (tyX20_ok 6 (by decide)) (c_narR v (Or.inl ⟨_, rfl⟩)).1 (c_narR v (Or.inl ⟨_, rfl⟩)).2 S hE hG hS ht (by decide) rfl rfl rfl rfl rfl rfl c_othR (c_hvR (fun _ _ _ => rfl)) hC0.2.2.2.2.2 kk
  · cases hv
theorem cg_X20_81 {a : Nat} {v : Int32} (hdg : decode cc pc = .ok (.getfield 81, 3)) (S : CallFix p m c cc nL s args lw_all RX20) (hE : gEnv E s) (hG : gC E G H) (hv : cGetI G [22] a 0 = some v) (kk : W p l e R s m args below meth c H locs cells slots Q (F0 m (pc + 3) ls (.int v :: rest))) : W p l e R s m args below meth c H locs cells slots Q (F0 m pc ls (.ref a :: rest)) := by
  unfold cGetI at hv
  split at hv
  · next ht =>
    cases hv
    have ht := List.mem_singleton.mp ht
    exact c_getv (ci := 21) (k := 0) hdg (Or.inr ⟨_, lw_nw q1244 rfl⟩) rfl in_X15 (by decide) (by decide) (Or.inl rfl) rfl S hE hG ht kk
  · cases hv
theorem cg_X20_101 {a : Nat} {v : Int32} (hdg : decode cc pc = .ok (.getfield 101, 3)) (S : CallFix p m c cc nL s args lw_all RX20) (hE : gEnv E s) (hG : gC E G H) (hv : cGetI G [24] a 1 = some v) (kk : W p l e R s m args below meth c H locs cells slots Q (F0 m (pc + 3) ls (.int v :: rest))) : W p l e R s m args below meth c H locs cells slots Q (F0 m pc ls (.ref a :: rest)) := by
  unfold cGetI at hv
  split at hv
  · next ht =>
    cases hv
    have ht := List.mem_singleton.mp ht
    exact c_getv (ci := 23) (k := 1) hdg (Or.inr ⟨_, lw_nw q1277 rfl⟩) rfl in_X17 (by decide) (by decide) (Or.inl rfl) rfl S hE hG ht kk
  · cases hv
theorem cg_X20_104 {a : Nat} {v : Int32} (hdg : decode cc pc = .ok (.getfield 104, 3)) (S : CallFix p m c cc nL s args lw_all RX20) (hE : gEnv E s) (hG : gC E G H) (hv : cGetI G [19] a 2 = some v) (kk : W p l e R s m args below meth c H locs cells slots Q (F0 m (pc + 3) ls (.int v :: rest))) : W p l e R s m args below meth c H locs cells slots Q (F0 m pc ls (.ref a :: rest)) := by
  unfold cGetI at hv
  split at hv
  · next ht =>
    cases hv
    have ht := List.mem_singleton.mp ht
    exact c_getv (ci := 18) (k := 2) hdg (Or.inr ⟨_, lw_nw q1173 rfl⟩) rfl in_X12 (by decide) (by decide) (Or.inl rfl) rfl S hE hG ht kk
  · cases hv
theorem cg_X20_107 {a : Nat} {v : Int32} (hdg : decode cc pc = .ok (.getfield 107, 3)) (S : CallFix p m c cc nL s args lw_all RX20) (hE : gEnv E s) (hG : gC E G H) (hv : cGetI G [16] a 1 = some v) (kk : W p l e R s m args below meth c H locs cells slots Q (F0 m (pc + 3) ls (.int v :: rest))) : W p l e R s m args below meth c H locs cells slots Q (F0 m pc ls (.ref a :: rest)) := by
  unfold cGetI at hv
  split at hv
  · next ht =>
    cases hv
    have ht := List.mem_singleton.mp ht
    exact c_getv (ci := 15) (k := 1) hdg (Or.inr ⟨_, lw_nw q1080 rfl⟩) rfl in_X9 (by decide) (by decide) (Or.inl rfl) rfl S hE hG ht kk
  · cases hv
theorem cg_X13_12 {a : Nat} {v : Nat} (hdg : decode cc pc = .ok (.getfield 12, 3)) (S : CallFix p m c cc nL s args lw_all RX13) (hE : gEnv E s) (hG : gC E G H) (hv : cGetR G [20] a 3 = some v) (kk : W p l e R s m args below meth c H locs cells slots Q (F0 m (pc + 3) ls (.ref v :: rest))) : W p l e R s m args below meth c H locs cells slots Q (F0 m pc ls (.ref a :: rest)) := by
  unfold cGetR at hv
  split at hv
  · next ht =>
    have ht := List.mem_singleton.mp ht
    exact c_getv (ci := 19) (k := 3) hdg (Or.inl q1215) rfl in_X13 (by decide) (by decide) (Or.inl rfl) (by show va_rf (cR G a 3) = _; rw [hv]; rfl) S hE hG ht kk
  · cases hv
theorem cp_X13_12i {a : Nat} {v : Option Nat} (hdg : decode cc pc = .ok (.putfield 12, 3)) (S : CallFix p m c cc nL s args lw_all RX13) (hE : gEnv E s) (hG : gC E G H) (hS : va_S (gx_C E) s.heap H locs) (hC0 : gC E Gz s.heap) (hnm : meth.name = "<init>") (hv : cPutR G [20] a 3 v = some G1) (kk : ∀ (H1 : Heap) (locs1 : List Loc), gC E G1 H1 → va_S (gx_C E) s.heap H1 locs1 → WC E p l e R s m args below meth c H1 locs1 Q (F0 m (pc + 3) ls rest)) : WC E p l e R s m args below meth c H locs Q (F0 m pc ls (va_rf v :: .ref a :: rest)) := by
  unfold cPutR at hv
  split at hv
  · next ht =>
    cases hv
    have ht := List.mem_singleton.mp ht
    exact c_putv (ci := 19) (k := 3) (v := va_rf v) (G' := cSetR G a 3 v) hdg (Or.inl q1215) rfl in_X13 tyX13_ok nmX13 (by decide) (Or.inl rfl) (by decide) (Or.inr ⟨hnm, rfl, q1215⟩) (tyX13_ok 3 (by decide)) (c_narR v (Or.inl ⟨_, rfl⟩)).1 (c_narR v (Or.inl ⟨_, rfl⟩)).2 S hE hG hS ht (by decide) rfl rfl rfl rfl rfl rfl c_othR (c_hvR (fun _ _ _ => rfl)) hC0.2.2.2.2.2 kk
  · cases hv
theorem cg_X13_21 {a : Nat} {v : Nat} (hdg : decode cc pc = .ok (.getfield 21, 3)) (S : CallFix p m c cc nL s args lw_all RX13) (hE : gEnv E s) (hG : gC E G H) (hv : cGetR G [20] a 4 = some v) (kk : W p l e R s m args below meth c H locs cells slots Q (F0 m (pc + 3) ls (.ref v :: rest))) : W p l e R s m args below meth c H locs cells slots Q (F0 m pc ls (.ref a :: rest)) := by
  unfold cGetR at hv
  split at hv
  · next ht =>
    have ht := List.mem_singleton.mp ht
    exact c_getv (ci := 19) (k := 4) hdg (Or.inl q1216) rfl in_X13 (by decide) (by decide) (Or.inl rfl) (by show va_rf (cR G a 4) = _; rw [hv]; rfl) S hE hG ht kk
  · cases hv
theorem cp_X13_21i {a : Nat} {v : Option Nat} (hdg : decode cc pc = .ok (.putfield 21, 3)) (S : CallFix p m c cc nL s args lw_all RX13) (hE : gEnv E s) (hG : gC E G H) (hS : va_S (gx_C E) s.heap H locs) (hC0 : gC E Gz s.heap) (hnm : meth.name = "<init>") (hv : cPutR G [20] a 4 v = some G1) (kk : ∀ (H1 : Heap) (locs1 : List Loc), gC E G1 H1 → va_S (gx_C E) s.heap H1 locs1 → WC E p l e R s m args below meth c H1 locs1 Q (F0 m (pc + 3) ls rest)) : WC E p l e R s m args below meth c H locs Q (F0 m pc ls (va_rf v :: .ref a :: rest)) := by
  unfold cPutR at hv
  split at hv
  · next ht =>
    cases hv
    have ht := List.mem_singleton.mp ht
    exact c_putv (ci := 19) (k := 4) (v := va_rf v) (G' := cSetR G a 4 v) hdg (Or.inl q1216) rfl in_X13 tyX13_ok nmX13 (by decide) (Or.inl rfl) (by decide) (Or.inr ⟨hnm, rfl, q1216⟩) (tyX13_ok 4 (by decide)) (c_narR v (Or.inl ⟨_, rfl⟩)).1 (c_narR v (Or.inl ⟨_, rfl⟩)).2 S hE hG hS ht (by decide) rfl rfl rfl rfl rfl rfl c_othR (c_hvR (fun _ _ _ => rfl)) hC0.2.2.2.2.2 kk
  · cases hv
theorem cg_X13_28 {a : Nat} {v : Nat} (hdg : decode cc pc = .ok (.getfield 28, 3)) (S : CallFix p m c cc nL s args lw_all RX13) (hE : gEnv E s) (hG : gC E G H) (hv : cGetR G [20] a 5 = some v) (kk : W p l e R s m args below meth c H locs cells slots Q (F0 m (pc + 3) ls (.ref v :: rest))) : W p l e R s m args below meth c H locs cells slots Q (F0 m pc ls (.ref a :: rest)) := by
  unfold cGetR at hv
  split at hv
  · next ht =>
    have ht := List.mem_singleton.mp ht
    exact c_getv (ci := 19) (k := 5) hdg (Or.inl q1217) rfl in_X13 (by decide) (by decide) (Or.inl rfl) (by show va_rf (cR G a 5) = _; rw [hv]; rfl) S hE hG ht kk
  · cases hv
theorem cp_X13_28i {a : Nat} {v : Option Nat} (hdg : decode cc pc = .ok (.putfield 28, 3)) (S : CallFix p m c cc nL s args lw_all RX13) (hE : gEnv E s) (hG : gC E G H) (hS : va_S (gx_C E) s.heap H locs) (hC0 : gC E Gz s.heap) (hnm : meth.name = "<init>") (hv : cPutR G [20] a 5 v = some G1) (kk : ∀ (H1 : Heap) (locs1 : List Loc), gC E G1 H1 → va_S (gx_C E) s.heap H1 locs1 → WC E p l e R s m args below meth c H1 locs1 Q (F0 m (pc + 3) ls rest)) : WC E p l e R s m args below meth c H locs Q (F0 m pc ls (va_rf v :: .ref a :: rest)) := by
  unfold cPutR at hv
  split at hv
  · next ht =>
    cases hv
    have ht := List.mem_singleton.mp ht
    exact c_putv (ci := 19) (k := 5) (v := va_rf v) (G' := cSetR G a 5 v) hdg (Or.inl q1217) rfl in_X13 tyX13_ok nmX13 (by decide) (Or.inl rfl) (by decide) (Or.inr ⟨hnm, rfl, q1217⟩) (tyX13_ok 5 (by decide)) (c_narR v (Or.inl ⟨_, rfl⟩)).1 (c_narR v (Or.inl ⟨_, rfl⟩)).2 S hE hG hS ht (by decide) rfl rfl rfl rfl rfl rfl c_othR (c_hvR (fun _ _ _ => rfl)) hC0.2.2.2.2.2 kk
  · cases hv
theorem cg_X13_72 {a : Nat} {v : Int32} (hdg : decode cc pc = .ok (.getfield 72, 3)) (S : CallFix p m c cc nL s args lw_all RX13) (hE : gEnv E s) (hG : gC E G H) (hv : cGetI G [19] a 1 = some v) (kk : W p l e R s m args below meth c H locs cells slots Q (F0 m (pc + 3) ls (.int v :: rest))) : W p l e R s m args below meth c H locs cells slots Q (F0 m pc ls (.ref a :: rest)) := by
  unfold cGetI at hv
  split at hv
  · next ht =>
    cases hv
    have ht := List.mem_singleton.mp ht
    exact c_getv (ci := 18) (k := 1) hdg (Or.inr ⟨_, lw_nw q1170 rfl⟩) rfl in_X12 (by decide) (by decide) (Or.inl rfl) rfl S hE hG ht kk
  · cases hv
theorem cg_X21_12 {a : Nat} {v : Nat} (hdg : decode cc pc = .ok (.getfield 12, 3)) (S : CallFix p m c cc nL s args lw_all RX21) (hE : gEnv E s) (hG : gC E G H) (hv : cGetR G [28] a 3 = some v) (kk : W p l e R s m args below meth c H locs cells slots Q (F0 m (pc + 3) ls (.ref v :: rest))) : W p l e R s m args below meth c H locs cells slots Q (F0 m pc ls (.ref a :: rest)) := by
  unfold cGetR at hv
  split at hv
  · next ht =>
    have ht := List.mem_singleton.mp ht
    exact c_getv (ci := 27) (k := 3) hdg (Or.inl q1435) rfl in_X21 (by decide) (by decide) (Or.inl rfl) (by show va_rf (cR G a 3) = _; rw [hv]; rfl) S hE hG ht kk
  · cases hv
theorem cp_X21_12i {a : Nat} {v : Option Nat} (hdg : decode cc pc = .ok (.putfield 12, 3)) (S : CallFix p m c cc nL s args lw_all RX21) (hE : gEnv E s) (hG : gC E G H) (hS : va_S (gx_C E) s.heap H locs) (hC0 : gC E Gz s.heap) (hnm : meth.name = "<init>") (hv : cPutR G [28] a 3 v = some G1) (kk : ∀ (H1 : Heap) (locs1 : List Loc), gC E G1 H1 → va_S (gx_C E) s.heap H1 locs1 → WC E p l e R s m args below meth c H1 locs1 Q (F0 m (pc + 3) ls rest)) : WC E p l e R s m args below meth c H locs Q (F0 m pc ls (va_rf v :: .ref a :: rest)) := by
  unfold cPutR at hv
  split at hv
  · next ht =>
    cases hv
    have ht := List.mem_singleton.mp ht
    exact c_putv (ci := 27) (k := 3) (v := va_rf v) (G' := cSetR G a 3 v) hdg (Or.inl q1435) rfl in_X21 tyX21_ok nmX21 (by decide) (Or.inl rfl) (by decide) (Or.inr ⟨hnm, rfl, q1435⟩) (tyX21_ok 3 (by decide)) (c_narR v (Or.inl ⟨_, rfl⟩)).1 (c_narR v (Or.inl ⟨_, rfl⟩)).2 S hE hG hS ht (by decide) rfl rfl rfl rfl rfl rfl c_othR (c_hvR (fun _ _ _ => rfl)) hC0.2.2.2.2.2 kk
  · cases hv
theorem cg_X21_21 {a : Nat} {v : Nat} (hdg : decode cc pc = .ok (.getfield 21, 3)) (S : CallFix p m c cc nL s args lw_all RX21) (hE : gEnv E s) (hG : gC E G H) (hv : cGetR G [28] a 5 = some v) (kk : W p l e R s m args below meth c H locs cells slots Q (F0 m (pc + 3) ls (.ref v :: rest))) : W p l e R s m args below meth c H locs cells slots Q (F0 m pc ls (.ref a :: rest)) := by
  unfold cGetR at hv
  split at hv
  · next ht =>
    have ht := List.mem_singleton.mp ht
    exact c_getv (ci := 27) (k := 5) hdg (Or.inl q1437) rfl in_X21 (by decide) (by decide) (Or.inl rfl) (by show va_rf (cR G a 5) = _; rw [hv]; rfl) S hE hG ht kk
  · cases hv
theorem cp_X21_21i {a : Nat} {v : Option Nat} (hdg : decode cc pc = .ok (.putfield 21, 3)) (S : CallFix p m c cc nL s args lw_all RX21) (hE : gEnv E s) (hG : gC E G H) (hS : va_S (gx_C E) s.heap H locs) (hC0 : gC E Gz s.heap) (hnm : meth.name = "<init>") (hv : cPutR G [28] a 5 v = some G1) (kk : ∀ (H1 : Heap) (locs1 : List Loc), gC E G1 H1 → va_S (gx_C E) s.heap H1 locs1 → WC E p l e R s m args below meth c H1 locs1 Q (F0 m (pc + 3) ls rest)) : WC E p l e R s m args below meth c H locs Q (F0 m pc ls (va_rf v :: .ref a :: rest)) := by
  unfold cPutR at hv
  split at hv
  · next ht =>
    cases hv
    have ht := List.mem_singleton.mp ht
    exact c_putv (ci := 27) (k := 5) (v := va_rf v) (G' := cSetR G a 5 v) hdg (Or.inl q1437) rfl in_X21 tyX21_ok nmX21 (by decide) (Or.inl rfl) (by decide) (Or.inr ⟨hnm, rfl, q1437⟩) (tyX21_ok 5 (by decide)) (c_narR v (Or.inl ⟨_, rfl⟩)).1 (c_narR v (Or.inl ⟨_, rfl⟩)).2 S hE hG hS ht (by decide) rfl rfl rfl rfl rfl rfl c_othR (c_hvR (fun _ _ _ => rfl)) hC0.2.2.2.2.2 kk
  · cases hv
theorem cg_X21_25 {a : Nat} {v : Nat} (hdg : decode cc pc = .ok (.getfield 25, 3)) (S : CallFix p m c cc nL s args lw_all RX21) (hE : gEnv E s) (hG : gC E G H) (hv : cGetR G [28] a 4 = some v) (kk : W p l e R s m args below meth c H locs cells slots Q (F0 m (pc + 3) ls (.ref v :: rest))) : W p l e R s m args below meth c H locs cells slots Q (F0 m pc ls (.ref a :: rest)) := by
  unfold cGetR at hv
  split at hv
  · next ht =>
    have ht := List.mem_singleton.mp ht
    exact c_getv (ci := 27) (k := 4) hdg (Or.inl q1436) rfl in_X21 (by decide) (by decide) (Or.inl rfl) (by show va_rf (cR G a 4) = _; rw [hv]; rfl) S hE hG ht kk
  · cases hv
theorem cp_X21_25i {a : Nat} {v : Option Nat} (hdg : decode cc pc = .ok (.putfield 25, 3)) (S : CallFix p m c cc nL s args lw_all RX21) (hE : gEnv E s) (hG : gC E G H) (hS : va_S (gx_C E) s.heap H locs) (hC0 : gC E Gz s.heap) (hnm : meth.name = "<init>") (hv : cPutR G [28] a 4 v = some G1) (kk : ∀ (H1 : Heap) (locs1 : List Loc), gC E G1 H1 → va_S (gx_C E) s.heap H1 locs1 → WC E p l e R s m args below meth c H1 locs1 Q (F0 m (pc + 3) ls rest)) : WC E p l e R s m args below meth c H locs Q (F0 m pc ls (va_rf v :: .ref a :: rest)) := by
  unfold cPutR at hv
  split at hv
  · next ht =>
    cases hv
    have ht := List.mem_singleton.mp ht
    exact c_putv (ci := 27) (k := 4) (v := va_rf v) (G' := cSetR G a 4 v) hdg (Or.inl q1436) rfl in_X21 tyX21_ok nmX21 (by decide) (Or.inl rfl) (by decide) (Or.inr ⟨hnm, rfl, q1436⟩) (tyX21_ok 4 (by decide)) (c_narR v (Or.inl ⟨_, rfl⟩)).1 (c_narR v (Or.inl ⟨_, rfl⟩)).2 S hE hG hS ht (by decide) rfl rfl rfl rfl rfl rfl c_othR (c_hvR (fun _ _ _ => rfl)) hC0.2.2.2.2.2 kk
  · cases hv
theorem cg_X11_12 {a : Nat} {v : Nat} (hdg : decode cc pc = .ok (.getfield 12, 3)) (S : CallFix p m c cc nL s args lw_all RX11) (hE : gEnv E s) (hG : gC E G H) (hv : cGetR G [18] a 3 = some v) (kk : W p l e R s m args below meth c H locs cells slots Q (F0 m (pc + 3) ls (.ref v :: rest))) : W p l e R s m args below meth c H locs cells slots Q (F0 m pc ls (.ref a :: rest)) := by
  unfold cGetR at hv
  split at hv
  · next ht =>
    have ht := List.mem_singleton.mp ht
    exact c_getv (ci := 17) (k := 3) hdg (Or.inl q1193) rfl in_X11 (by decide) (by decide) (Or.inl rfl) (by show va_rf (cR G a 3) = _; rw [hv]; rfl) S hE hG ht kk
  · cases hv
theorem cp_X11_12i {a : Nat} {v : Option Nat} (hdg : decode cc pc = .ok (.putfield 12, 3)) (S : CallFix p m c cc nL s args lw_all RX11) (hE : gEnv E s) (hG : gC E G H) (hS : va_S (gx_C E) s.heap H locs) (hC0 : gC E Gz s.heap) (hnm : meth.name = "<init>") (hv : cPutR G [18] a 3 v = some G1) (kk : ∀ (H1 : Heap) (locs1 : List Loc), gC E G1 H1 → va_S (gx_C E) s.heap H1 locs1 → WC E p l e R s m args below meth c H1 locs1 Q (F0 m (pc + 3) ls rest)) : WC E p l e R s m args below meth c H locs Q (F0 m pc ls (va_rf v :: .ref a :: rest)) := by
  unfold cPutR at hv
  split at hv
  · next ht =>
    cases hv
    have ht := List.mem_singleton.mp ht
    exact c_putv (ci := 17) (k := 3) (v := va_rf v) (G' := cSetR G a 3 v) hdg (Or.inl q1193) rfl in_X11 tyX11_ok nmX11 (by decide) (Or.inl rfl) (by decide) (Or.inr ⟨hnm, rfl, q1193⟩) (tyX11_ok 3 (by decide)) (c_narR v (Or.inl ⟨_, rfl⟩)).1 (c_narR v (Or.inl ⟨_, rfl⟩)).2 S hE hG hS ht (by decide) rfl rfl rfl rfl rfl rfl c_othR (c_hvR (fun _ _ _ => rfl)) hC0.2.2.2.2.2 kk
  · cases hv
theorem cg_X11_21 {a : Nat} {v : Nat} (hdg : decode cc pc = .ok (.getfield 21, 3)) (S : CallFix p m c cc nL s args lw_all RX11) (hE : gEnv E s) (hG : gC E G H) (hv : cGetR G [18] a 4 = some v) (kk : W p l e R s m args below meth c H locs cells slots Q (F0 m (pc + 3) ls (.ref v :: rest))) : W p l e R s m args below meth c H locs cells slots Q (F0 m pc ls (.ref a :: rest)) := by
  unfold cGetR at hv
  split at hv
  · next ht =>
    have ht := List.mem_singleton.mp ht
    exact c_getv (ci := 17) (k := 4) hdg (Or.inl q1194) rfl in_X11 (by decide) (by decide) (Or.inl rfl) (by show va_rf (cR G a 4) = _; rw [hv]; rfl) S hE hG ht kk
  · cases hv
theorem cp_X11_21i {a : Nat} {v : Option Nat} (hdg : decode cc pc = .ok (.putfield 21, 3)) (S : CallFix p m c cc nL s args lw_all RX11) (hE : gEnv E s) (hG : gC E G H) (hS : va_S (gx_C E) s.heap H locs) (hC0 : gC E Gz s.heap) (hnm : meth.name = "<init>") (hv : cPutR G [18] a 4 v = some G1) (kk : ∀ (H1 : Heap) (locs1 : List Loc), gC E G1 H1 → va_S (gx_C E) s.heap H1 locs1 → WC E p l e R s m args below meth c H1 locs1 Q (F0 m (pc + 3) ls rest)) : WC E p l e R s m args below meth c H locs Q (F0 m pc ls (va_rf v :: .ref a :: rest)) := by
  unfold cPutR at hv
  split at hv
  · next ht =>
    cases hv
    have ht := List.mem_singleton.mp ht
    exact c_putv (ci := 17) (k := 4) (v := va_rf v) (G' := cSetR G a 4 v) hdg (Or.inl q1194) rfl in_X11 tyX11_ok nmX11 (by decide) (Or.inl rfl) (by decide) (Or.inr ⟨hnm, rfl, q1194⟩) (tyX11_ok 4 (by decide)) (c_narR v (Or.inl ⟨_, rfl⟩)).1 (c_narR v (Or.inl ⟨_, rfl⟩)).2 S hE hG hS ht (by decide) rfl rfl rfl rfl rfl rfl c_othR (c_hvR (fun _ _ _ => rfl)) hC0.2.2.2.2.2 kk
  · cases hv
theorem cg_X34_13 {a : Nat} {v : Int32} (hdg : decode cc pc = .ok (.getfield 13, 3)) (S : CallFix p m c cc nL s args lw_all RX34) (hE : gEnv E s) (hG : gC E G H) (hv : cGetI G [16] a 0 = some v) (kk : W p l e R s m args below meth c H locs cells slots Q (F0 m (pc + 3) ls (.int v :: rest))) : W p l e R s m args below meth c H locs cells slots Q (F0 m pc ls (.ref a :: rest)) := by
  unfold cGetI at hv
  split at hv
  · next ht =>
    cases hv
    have ht := List.mem_singleton.mp ht
    exact c_getv (ci := 15) (k := 0) hdg (Or.inr ⟨_, lw_nw q1077 rfl⟩) rfl in_X9 (by decide) (by decide) (Or.inl rfl) rfl S hE hG ht kk
  · cases hv
theorem cg_X34_17 {a : Nat} {v : Int32} (hdg : decode cc pc = .ok (.getfield 17, 3)) (S : CallFix p m c cc nL s args lw_all RX34) (hE : gEnv E s) (hG : gC E G H) (hv : cGetI G [16] a 2 = some v) (kk : W p l e R s m args below meth c H locs cells slots Q (F0 m (pc + 3) ls (.int v :: rest))) : W p l e R s m args below meth c H locs cells slots Q (F0 m pc ls (.ref a :: rest)) := by
  unfold cGetI at hv
  split at hv
  · next ht =>
    cases hv
    have ht := List.mem_singleton.mp ht
    exact c_getv (ci := 15) (k := 2) hdg (Or.inr ⟨_, lw_nw q1082 rfl⟩) rfl in_X9 (by decide) (by decide) (Or.inl rfl) rfl S hE hG ht kk
  · cases hv
theorem cg_X34_20 {a : Nat} {v : Int32} (hdg : decode cc pc = .ok (.getfield 20, 3)) (S : CallFix p m c cc nL s args lw_all RX34) (hE : gEnv E s) (hG : gC E G H) (hv : cGetI G [16] a 1 = some v) (kk : W p l e R s m args below meth c H locs cells slots Q (F0 m (pc + 3) ls (.int v :: rest))) : W p l e R s m args below meth c H locs cells slots Q (F0 m pc ls (.ref a :: rest)) := by
  unfold cGetI at hv
  split at hv
  · next ht =>
    cases hv
    have ht := List.mem_singleton.mp ht
    exact c_getv (ci := 15) (k := 1) hdg (Or.inr ⟨_, lw_nw q1079 rfl⟩) rfl in_X9 (by decide) (by decide) (Or.inl rfl) rfl S hE hG ht kk
  · cases hv
theorem cg_X31_7 {a : Nat} {v : Int32} (hdg : decode cc pc = .ok (.getfield 7, 3)) (S : CallFix p m c cc nL s args lw_all RX31) (hE : gEnv E s) (hG : gC E G H) (hv : cGetI G [36] a 0 = some v) (kk : W p l e R s m args below meth c H locs cells slots Q (F0 m (pc + 3) ls (.int v :: rest))) : W p l e R s m args below meth c H locs cells slots Q (F0 m pc ls (.ref a :: rest)) := by
  unfold cGetI at hv
  split at hv
  · next ht =>
    cases hv
    have ht := List.mem_singleton.mp ht
    exact c_getv (ci := 35) (k := 0) hdg (Or.inl q1655) rfl in_X31 (by decide) (by decide) (Or.inl rfl) rfl S hE hG ht kk
  · cases hv
theorem cp_X31_7i {a : Nat} {v : Int32} (hdg : decode cc pc = .ok (.putfield 7, 3)) (S : CallFix p m c cc nL s args lw_all RX31) (hE : gEnv E s) (hG : gC E G H) (hS : va_S (gx_C E) s.heap H locs) (hC0 : gC E Gz s.heap) (hnm : meth.name = "<init>") (hv : cPutI G [36] a 0 v = some G1) (kk : ∀ (H1 : Heap) (locs1 : List Loc), gC E G1 H1 → va_S (gx_C E) s.heap H1 locs1 → WC E p l e R s m args below meth c H1 locs1 Q (F0 m (pc + 3) ls rest)) : WC E p l e R s m args below meth c H locs Q (F0 m pc ls (.int v :: .ref a :: rest)) := by
  unfold cPutI at hv
  split at hv
  · next ht =>
    cases hv
    have ht := List.mem_singleton.mp ht
    exact c_putv (ci := 35) (k := 0) (v := .int v) (G' := cSetI G a 0 v) hdg (Or.inl q1655) rfl in_X31 tyX31_ok nmX31 (by decide) (Or.inl rfl) (by decide) (Or.inr ⟨hnm, rfl, q1655⟩) (tyX31_ok 0 (by decide)) rfl rfl S hE hG hS ht (by decide) rfl rfl rfl rfl rfl rfl c_othI (c_hvI (fun _ _ _ => rfl)) hC0.2.2.2.2.2 kk
  · cases hv
theorem cg_X31_13 {a : Nat} {v : Int32} (hdg : decode cc pc = .ok (.getfield 13, 3)) (S : CallFix p m c cc nL s args lw_all RX31) (hE : gEnv E s) (hG : gC E G H) (hv : cGetI G [36] a 1 = some v) (kk : W p l e R s m args below meth c H locs cells slots Q (F0 m (pc + 3) ls (.int v :: rest))) : W p l e R s m args below meth c H locs cells slots Q (F0 m pc ls (.ref a :: rest)) := by
  unfold cGetI at hv
  split at hv
  · next ht =>
    cases hv
    have ht := List.mem_singleton.mp ht
    exact c_getv (ci := 35) (k := 1) hdg (Or.inl q1656) rfl in_X31 (by decide) (by decide) (Or.inl rfl) rfl S hE hG ht kk
  · cases hv
theorem cp_X31_13i {a : Nat} {v : Int32} (hdg : decode cc pc = .ok (.putfield 13, 3)) (S : CallFix p m c cc nL s args lw_all RX31) (hE : gEnv E s) (hG : gC E G H) (hS : va_S (gx_C E) s.heap H locs) (hC0 : gC E Gz s.heap) (hnm : meth.name = "<init>") (hv : cPutZ G [36] a 1 v = some G1) (kk : ∀ (H1 : Heap) (locs1 : List Loc), gC E G1 H1 → va_S (gx_C E) s.heap H1 locs1 → WC E p l e R s m args below meth c H1 locs1 Q (F0 m (pc + 3) ls rest)) : WC E p l e R s m args below meth c H locs Q (F0 m pc ls (.int v :: .ref a :: rest)) := by
  unfold cPutZ at hv
  split at hv
  · next ht =>
    obtain ⟨ht, h01⟩ := ht
    cases hv
    have ht := List.mem_singleton.mp ht
    exact c_putv (ci := 35) (k := 1) (v := .int v) (G' := cSetI G a 1 v) hdg (Or.inl q1656) rfl in_X31 tyX31_ok nmX31 (by decide) (Or.inl rfl) (by decide) (Or.inr ⟨hnm, rfl, q1656⟩) (tyX31_ok 1 (by decide)) (by rcases h01 with rfl | rfl <;> decide) (by rcases h01 with rfl | rfl <;> decide) S hE hG hS ht (by decide) rfl rfl rfl rfl rfl rfl c_othI (c_hvI (fun _ _ _ => rfl)) hC0.2.2.2.2.2 kk
  · cases hv
theorem cg_X31_17 {a : Nat} {v : Nat} (hdg : decode cc pc = .ok (.getfield 17, 3)) (S : CallFix p m c cc nL s args lw_all RX31) (hE : gEnv E s) (hG : gC E G H) (hv : cGetR G [9] a 11 = some v) (kk : W p l e R s m args below meth c H locs cells slots Q (F0 m (pc + 3) ls (.ref v :: rest))) : W p l e R s m args below meth c H locs cells slots Q (F0 m pc ls (.ref a :: rest)) := by
  unfold cGetR at hv
  split at hv
  · next ht =>
    have ht := List.mem_singleton.mp ht
    exact c_getv (ci := 8) (k := 11) hdg (Or.inr ⟨_, lw_nw q203 rfl⟩) rfl in_X1 (by decide) (by decide) (Or.inl rfl) (by show va_rf (cR G a 11) = _; rw [hv]; rfl) S hE hG ht kk
  · cases hv
theorem cg_X7_12 {a : Nat} {v : Nat} (hdg : decode cc pc = .ok (.getfield 12, 3)) (S : CallFix p m c cc nL s args lw_all RX7) (hE : gEnv E s) (hG : gC E G H) (hv : cGetR G [14] a 3 = some v) (kk : W p l e R s m args below meth c H locs cells slots Q (F0 m (pc + 3) ls (.ref v :: rest))) : W p l e R s m args below meth c H locs cells slots Q (F0 m pc ls (.ref a :: rest)) := by
  unfold cGetR at hv
  split at hv
  · next ht =>
    have ht := List.mem_singleton.mp ht
    exact c_getv (ci := 13) (k := 3) hdg (Or.inl q1132) rfl in_X7 (by decide) (by decide) (Or.inl rfl) (by show va_rf (cR G a 3) = _; rw [hv]; rfl) S hE hG ht kk
  · cases hv
theorem cp_X7_12i {a : Nat} {v : Option Nat} (hdg : decode cc pc = .ok (.putfield 12, 3)) (S : CallFix p m c cc nL s args lw_all RX7) (hE : gEnv E s) (hG : gC E G H) (hS : va_S (gx_C E) s.heap H locs) (hC0 : gC E Gz s.heap) (hnm : meth.name = "<init>") (hv : cPutR G [14] a 3 v = some G1) (kk : ∀ (H1 : Heap) (locs1 : List Loc), gC E G1 H1 → va_S (gx_C E) s.heap H1 locs1 → WC E p l e R s m args below meth c H1 locs1 Q (F0 m (pc + 3) ls rest)) : WC E p l e R s m args below meth c H locs Q (F0 m pc ls (va_rf v :: .ref a :: rest)) := by
  unfold cPutR at hv
  split at hv
  · next ht =>
    cases hv
    have ht := List.mem_singleton.mp ht
    exact c_putv (ci := 13) (k := 3) (v := va_rf v) (G' := cSetR G a 3 v) hdg (Or.inl q1132) rfl in_X7 tyX7_ok nmX7 (by decide) (Or.inl rfl) (by decide) (Or.inr ⟨hnm, rfl, q1132⟩) (tyX7_ok 3 (by decide)) (c_narR v (Or.inl ⟨_, rfl⟩)).1 (c_narR v (Or.inl ⟨_, rfl⟩)).2 S hE hG hS ht (by decide) rfl rfl rfl rfl rfl rfl c_othR (c_hvR (fun _ _ _ => rfl)) hC0.2.2.2.2.2 kk
  · cases hv
theorem cg_X7_21 {a : Nat} {v : Nat} (hdg : decode cc pc = .ok (.getfield 21, 3)) (S : CallFix p m c cc nL s args lw_all RX7) (hE : gEnv E s) (hG : gC E G H) (hv : cGetR G [14] a 4 = some v) (kk : W p l e R s m args below meth c H locs cells slots Q (F0 m (pc + 3) ls (.ref v :: rest))) : W p l e R s m args below meth c H locs cells slots Q (F0 m pc ls (.ref a :: rest)) := by
  unfold cGetR at hv
  split at hv
  · next ht =>
    have ht := List.mem_singleton.mp ht
    exact c_getv (ci := 13) (k := 4) hdg (Or.inl q1133) rfl in_X7 (by decide) (by decide) (Or.inl rfl) (by show va_rf (cR G a 4) = _; rw [hv]; rfl) S hE hG ht kk
  · cases hv
theorem cp_X7_21i {a : Nat} {v : Option Nat} (hdg : decode cc pc = .ok (.putfield 21, 3)) (S : CallFix p m c cc nL s args lw_all RX7) (hE : gEnv E s) (hG : gC E G H) (hS : va_S (gx_C E) s.heap H locs) (hC0 : gC E Gz s.heap) (hnm : meth.name = "<init>") (hv : cPutR G [14] a 4 v = some G1) (kk : ∀ (H1 : Heap) (locs1 : List Loc), gC E G1 H1 → va_S (gx_C E) s.heap H1 locs1 → WC E p l e R s m args below meth c H1 locs1 Q (F0 m (pc + 3) ls rest)) : WC E p l e R s m args below meth c H locs Q (F0 m pc ls (va_rf v :: .ref a :: rest)) := by
  unfold cPutR at hv
  split at hv
  · next ht =>
    cases hv
    have ht := List.mem_singleton.mp ht
    exact c_putv (ci := 13) (k := 4) (v := va_rf v) (G' := cSetR G a 4 v) hdg (Or.inl q1133) rfl in_X7 tyX7_ok nmX7 (by decide) (Or.inl rfl) (by decide) (Or.inr ⟨hnm, rfl, q1133⟩) (tyX7_ok 4 (by decide)) (c_narR v (Or.inl ⟨_, rfl⟩)).1 (c_narR v (Or.inl ⟨_, rfl⟩)).2 S hE hG hS ht (by decide) rfl rfl rfl rfl rfl rfl c_othR (c_hvR (fun _ _ _ => rfl)) hC0.2.2.2.2.2 kk
  · cases hv
theorem cg_J9_9 {a : Nat} {v : Nat} (hdg : decode cc pc = .ok (.getfield 9, 3)) (S : CallFix p m c cc nL s args lw_all RJ9) (hE : gEnv E s) (hG : gC E G H) (hv : cGetR G [5] a 0 = some v) (kk : W p l e R s m args below meth c H locs cells slots Q (F0 m (pc + 3) ls (.ref v :: rest))) : W p l e R s m args below meth c H locs cells slots Q (F0 m pc ls (.ref a :: rest)) := by
  unfold cGetR at hv
  split at hv
  · next ht =>
    have ht := List.mem_singleton.mp ht
    exact c_getS (k := 0) hdg (Or.inl q616) in_J9s (by decide) rfl (by show va_rf (cR G a 0) = _; rw [hv]; rfl) S hE hG ht kk
  · cases hv
theorem cg_J9_15 {a : Nat} {v : Int32} (hdg : decode cc pc = .ok (.getfield 15, 3)) (S : CallFix p m c cc nL s args lw_all RJ9) (hE : gEnv E s) (hG : gC E G H) (hv : cGetI G [5] a 1 = some v) (kk : W p l e R s m args below meth c H locs cells slots Q (F0 m (pc + 3) ls (.int v :: rest))) : W p l e R s m args below meth c H locs cells slots Q (F0 m pc ls (.ref a :: rest)) := by
  unfold cGetI at hv
  split at hv
  · next ht =>
    cases hv
    have ht := List.mem_singleton.mp ht
    exact c_getS (k := 1) hdg (Or.inl q617) in_J9s (by decide) rfl rfl S hE hG ht kk
  · cases hv
theorem cp_J5_7i {a : Nat} {v : Int32} (hdg : decode cc pc = .ok (.putfield 7, 3)) (S : CallFix p m c cc nL s args lw_all RJ5) (hE : gEnv E s) (hG : gC E G H) (hS : va_S (gx_C E) s.heap H locs) (hC0 : gC E Gz s.heap) (hnm : meth.name = "<init>") (hv : cPutI G [3] a 0 v = some G1) (kk : ∀ (H1 : Heap) (locs1 : List Loc), gC E G1 H1 → va_S (gx_C E) s.heap H1 locs1 → WC E p l e R s m args below meth c H1 locs1 Q (F0 m (pc + 3) ls rest)) : WC E p l e R s m args below meth c H locs Q (F0 m pc ls (.int v :: .ref a :: rest)) := by
  unfold cPutI at hv
  split at hv
  · next ht =>
    cases hv
    have ht := List.mem_singleton.mp ht
    exact c_putv (ci := 2) (k := 0) (v := .int v) (G' := cSetI G a 0 v) hdg (Or.inl q353) rfl in_J6 tyJ6_ok nmJ6 (by decide) (Or.inl rfl) (by decide) (Or.inr ⟨hnm, rfl, q353⟩) (tyJ6_ok 0 (by decide)) rfl rfl S hE hG hS ht (by decide) rfl rfl rfl rfl rfl rfl c_othI (c_hvI (fun _ _ _ => rfl)) hC0.2.2.2.2.2 kk
  · cases hv
theorem cg_J6_9 {a : Nat} {v : Nat} (hdg : decode cc pc = .ok (.getfield 9, 3)) (S : CallFix p m c cc nL s args lw_all RJ6) (hE : gEnv E s) (hG : gC E G H) (hv : cGetR G [3] a 1 = some v) (kk : W p l e R s m args below meth c H locs cells slots Q (F0 m (pc + 3) ls (.ref v :: rest))) : W p l e R s m args below meth c H locs cells slots Q (F0 m pc ls (.ref a :: rest)) := by
  unfold cGetR at hv
  split at hv
  · next ht =>
    have ht := List.mem_singleton.mp ht
    exact c_getv (ci := 2) (k := 1) hdg (Or.inl q351) rfl in_J6 (by decide) (by decide) (Or.inl rfl) (by show va_rf (cR G a 1) = _; rw [hv]; rfl) S hE hG ht kk
  · cases hv
theorem cp_J6_9 {a : Nat} {v : Option Nat} (hdg : decode cc pc = .ok (.putfield 9, 3)) (S : CallFix p m c cc nL s args lw_all RJ6) (hE : gEnv E s) (hG : gC E G H) (hS : va_S (gx_C E) s.heap H locs) (hC0 : gC E Gz s.heap) (hv : cPutR G [3] a 1 v = some G1) (kk : ∀ (H1 : Heap) (locs1 : List Loc), gC E G1 H1 → va_S (gx_C E) s.heap H1 locs1 → WC E p l e R s m args below meth c H1 locs1 Q (F0 m (pc + 3) ls rest)) : WC E p l e R s m args below meth c H locs Q (F0 m pc ls (va_rf v :: .ref a :: rest)) := by
  unfold cPutR at hv
  split at hv
  · next ht =>
    cases hv
    have ht := List.mem_singleton.mp ht
    exact c_putv (ci := 2) (k := 1) (v := va_rf v) (G' := cSetR G a 1 v) hdg (Or.inl q351) rfl in_J6 tyJ6_ok nmJ6 (by decide) (Or.inl rfl) (by decide) (Or.inl rfl) (tyJ6_ok 1 (by decide)) (c_narR v (Or.inr ⟨_, rfl⟩)).1 (c_narR v (Or.inr ⟨_, rfl⟩)).2 S hE hG hS ht (by decide) rfl rfl rfl rfl rfl rfl c_othR (c_hvR (fun _ _ _ => rfl)) hC0.2.2.2.2.2 kk
  · cases hv
theorem cp_J6_9i {a : Nat} {v : Option Nat} (hdg : decode cc pc = .ok (.putfield 9, 3)) (S : CallFix p m c cc nL s args lw_all RJ6) (hE : gEnv E s) (hG : gC E G H) (hS : va_S (gx_C E) s.heap H locs) (hC0 : gC E Gz s.heap) (hnm : meth.name = "<init>") (hv : cPutR G [3] a 1 v = some G1) (kk : ∀ (H1 : Heap) (locs1 : List Loc), gC E G1 H1 → va_S (gx_C E) s.heap H1 locs1 → WC E p l e R s m args below meth c H1 locs1 Q (F0 m (pc + 3) ls rest)) : WC E p l e R s m args below meth c H locs Q (F0 m pc ls (va_rf v :: .ref a :: rest)) := by
  unfold cPutR at hv
  split at hv
  · next ht =>
    cases hv
    have ht := List.mem_singleton.mp ht
    exact c_putv (ci := 2) (k := 1) (v := va_rf v) (G' := cSetR G a 1 v) hdg (Or.inl q351) rfl in_J6 tyJ6_ok nmJ6 (by decide) (Or.inl rfl) (by decide) (Or.inr ⟨hnm, rfl, q351⟩) (tyJ6_ok 1 (by decide)) (c_narR v (Or.inr ⟨_, rfl⟩)).1 (c_narR v (Or.inr ⟨_, rfl⟩)).2 S hE hG hS ht (by decide) rfl rfl rfl rfl rfl rfl c_othR (c_hvR (fun _ _ _ => rfl)) hC0.2.2.2.2.2 kk
  · cases hv
theorem cg_J6_48 {a : Nat} {v : Int32} (hdg : decode cc pc = .ok (.getfield 48, 3)) (S : CallFix p m c cc nL s args lw_all RJ6) (hE : gEnv E s) (hG : gC E G H) (hv : cGetI G [3] a 2 = some v) (kk : W p l e R s m args below meth c H locs cells slots Q (F0 m (pc + 3) ls (.int v :: rest))) : W p l e R s m args below meth c H locs cells slots Q (F0 m pc ls (.ref a :: rest)) := by
  unfold cGetI at hv
  split at hv
  · next ht =>
    cases hv
    have ht := List.mem_singleton.mp ht
    exact c_getv (ci := 2) (k := 2) hdg (Or.inl q352) rfl in_J6 (by decide) (by decide) (Or.inl rfl) rfl S hE hG ht kk
  · cases hv
theorem cp_J6_48 {a : Nat} {v : Int32} (hdg : decode cc pc = .ok (.putfield 48, 3)) (S : CallFix p m c cc nL s args lw_all RJ6) (hE : gEnv E s) (hG : gC E G H) (hS : va_S (gx_C E) s.heap H locs) (hC0 : gC E Gz s.heap) (hv : cPutI G [3] a 2 v = some G1) (kk : ∀ (H1 : Heap) (locs1 : List Loc), gC E G1 H1 → va_S (gx_C E) s.heap H1 locs1 → WC E p l e R s m args below meth c H1 locs1 Q (F0 m (pc + 3) ls rest)) : WC E p l e R s m args below meth c H locs Q (F0 m pc ls (.int v :: .ref a :: rest)) := by
  unfold cPutI at hv
  split at hv
  · next ht =>
    cases hv
    have ht := List.mem_singleton.mp ht
    exact c_putv (ci := 2) (k := 2) (v := .int v) (G' := cSetI G a 2 v) hdg (Or.inl q352) rfl in_J6 tyJ6_ok nmJ6 (by decide) (Or.inl rfl) (by decide) (Or.inl rfl) (tyJ6_ok 2 (by decide)) rfl rfl S hE hG hS ht (by decide) rfl rfl rfl rfl rfl rfl c_othI (c_hvI (fun _ _ _ => rfl)) hC0.2.2.2.2.2 kk
  · cases hv
theorem cg_J6_63 {a : Nat} {v : Int32} (hdg : decode cc pc = .ok (.getfield 63, 3)) (S : CallFix p m c cc nL s args lw_all RJ6) (hE : gEnv E s) (hG : gC E G H) (hv : cGetI G [3] a 0 = some v) (kk : W p l e R s m args below meth c H locs cells slots Q (F0 m (pc + 3) ls (.int v :: rest))) : W p l e R s m args below meth c H locs cells slots Q (F0 m pc ls (.ref a :: rest)) := by
  unfold cGetI at hv
  split at hv
  · next ht =>
    cases hv
    have ht := List.mem_singleton.mp ht
    exact c_getv (ci := 2) (k := 0) hdg (Or.inl q354) rfl in_J6 (by decide) (by decide) (Or.inr q355) rfl S hE hG ht kk
  · cases hv
theorem cp_J6_63 {a : Nat} {v : Int32} (hdg : decode cc pc = .ok (.putfield 63, 3)) (S : CallFix p m c cc nL s args lw_all RJ6) (hE : gEnv E s) (hG : gC E G H) (hS : va_S (gx_C E) s.heap H locs) (hC0 : gC E Gz s.heap) (hv : cPutI G [3] a 0 v = some G1) (kk : ∀ (H1 : Heap) (locs1 : List Loc), gC E G1 H1 → va_S (gx_C E) s.heap H1 locs1 → WC E p l e R s m args below meth c H1 locs1 Q (F0 m (pc + 3) ls rest)) : WC E p l e R s m args below meth c H locs Q (F0 m pc ls (.int v :: .ref a :: rest)) := by
  unfold cPutI at hv
  split at hv
  · next ht =>
    cases hv
    have ht := List.mem_singleton.mp ht
    exact c_putv (ci := 2) (k := 0) (v := .int v) (G' := cSetI G a 0 v) hdg (Or.inl q354) rfl in_J6 tyJ6_ok nmJ6 (by decide) (Or.inr q355) (by decide) (Or.inl rfl) (tyJ6_ok 0 (by decide)) rfl rfl S hE hG hS ht (by decide) rfl rfl rfl rfl rfl rfl c_othI (c_hvI (fun _ _ _ => rfl)) hC0.2.2.2.2.2 kk
  · cases hv
theorem ck_X1_131 {a : Nat} {u : Unit} (hdg : decode cc pc = .ok (.checkcast 131, 3)) (S : CallFix p m c cc nL s args lw_all RX1) (hE : gEnv E s) (hG : gC E G H) (hv : cCast G [14, 18, 20, 21, 23, 25, 26, 27, 28] a = some u) (kk : W p l e R s m args below meth c H locs cells slots Q (F0 m (pc + 3) ls (.ref a :: rest))) : W p l e R s m args below meth c H locs cells slots Q (F0 m pc ls (.ref a :: rest)) := by
  have ht := c_castL hv
  simp only [List.mem_cons, List.not_mem_nil, or_false] at ht
  rcases ht with ht | ht | ht | ht | ht | ht | ht | ht | ht
  · exact c_castY (ci := 13) rfl (by decide) q1724 (lw_nw q3401 rfl) hdg S hE hG ht kk
  · exact c_castY (ci := 17) rfl (by decide) q1724 (lw_nw q3400 rfl) hdg S hE hG ht kk
  · exact c_castY (ci := 19) rfl (by decide) q1724 (lw_nw q3398 rfl) hdg S hE hG ht kk
  · exact c_castY (ci := 20) rfl (by decide) q1724 (lw_nw q3396 rfl) hdg S hE hG ht kk
  · exact c_castY (ci := 22) rfl (by decide) q1724 (lw_nw q3393 rfl) hdg S hE hG ht kk
  · exact c_castY (ci := 24) rfl (by decide) q1724 (lw_nw q3394 rfl) hdg S hE hG ht kk
  · exact c_castY (ci := 25) rfl (by decide) q1724 (lw_nw q3395 rfl) hdg S hE hG ht kk
  · exact c_castY (ci := 26) rfl (by decide) q1724 (lw_nw q3397 rfl) hdg S hE hG ht kk
  · exact c_castY (ci := 27) rfl (by decide) q1724 (lw_nw q3399 rfl) hdg S hE hG ht kk
theorem ck_X1_167 {a : Nat} {u : Unit} (hdg : decode cc pc = .ok (.checkcast 167, 3)) (S : CallFix p m c cc nL s args lw_all RX1) (hE : gEnv E s) (hG : gC E G H) (hv : cCast G [14, 20, 21, 27, 28] a = some u) (kk : W p l e R s m args below meth c H locs cells slots Q (F0 m (pc + 3) ls (.ref a :: rest))) : W p l e R s m args below meth c H locs cells slots Q (F0 m pc ls (.ref a :: rest)) := by
  have ht := c_castL hv
  simp only [List.mem_cons, List.not_mem_nil, or_false] at ht
  rcases ht with ht | ht | ht | ht | ht
  · exact c_castY (ci := 13) rfl (by decide) q1732 (lw_nw q1421 rfl) hdg S hE hG ht kk
  · exact c_castY (ci := 19) rfl (by decide) q1732 (lw_nw q1409 rfl) hdg S hE hG ht kk
  · exact c_castY (ci := 20) rfl (by decide) q1732 (lw_nw q1397 rfl) hdg S hE hG ht kk
  · exact c_castY (ci := 26) rfl (by decide) q1732 (lw_nw q1403 rfl) hdg S hE hG ht kk
  · exact c_castY (ci := 27) rfl (by decide) q1732 (lw_nw q1415 rfl) hdg S hE hG ht kk
theorem ci_X1_167 {a : Nat} {v : Int32} (hdg : decode cc pc = .ok (.instanceof 167, 3)) (S : CallFix p m c cc nL s args lw_all RX1) (hE : gEnv E s) (hG : gC E G H) (hv : cInst G [14, 20, 21, 27, 28] [18, 23, 25, 26] a = some v) (kk : W p l e R s m args below meth c H locs cells slots Q (F0 m (pc + 3) ls (.int v :: rest))) : W p l e R s m args below meth c H locs cells slots Q (F0 m pc ls (.ref a :: rest)) := by
  unfold cInst at hv
  split at hv
  · next ht =>
    cases hv
    simp only [List.mem_cons, List.not_mem_nil, or_false] at ht
    rcases ht with ht | ht | ht | ht | ht
    · exact c_instY (ci := 13) rfl (by decide) q1732 (lw_nw q1421 rfl) hdg S hE hG ht kk
    · exact c_instY (ci := 19) rfl (by decide) q1732 (lw_nw q1409 rfl) hdg S hE hG ht kk
    · exact c_instY (ci := 20) rfl (by decide) q1732 (lw_nw q1397 rfl) hdg S hE hG ht kk
    · exact c_instY (ci := 26) rfl (by decide) q1732 (lw_nw q1403 rfl) hdg S hE hG ht kk
    · exact c_instY (ci := 27) rfl (by decide) q1732 (lw_nw q1415 rfl) hdg S hE hG ht kk
  · split at hv
    · next ht =>
      cases hv
      simp only [List.mem_cons, List.not_mem_nil, or_false] at ht
      rcases ht with ht | ht | ht | ht
      · exact c_instNo (ci := 17) rfl (by decide) q1732 4 rfl hdg S hE hG ht kk
      · exact c_instNo (ci := 22) rfl (by decide) q1732 15 rfl hdg S hE hG ht kk
      · exact c_instNo (ci := 24) rfl (by decide) q1732 20 rfl hdg S hE hG ht kk
      · exact c_instNo (ci := 25) rfl (by decide) q1732 23 rfl hdg S hE hG ht kk
    · cases hv
theorem ck_X1_178 {a : Nat} {u : Unit} (hdg : decode cc pc = .ok (.checkcast 178, 3)) (S : CallFix p m c cc nL s args lw_all RX1) (hE : gEnv E s) (hG : gC E G H) (hv : cCast G [18, 20, 25, 27] a = some u) (kk : W p l e R s m args below meth c H locs cells slots Q (F0 m (pc + 3) ls (.ref a :: rest))) : W p l e R s m args below meth c H locs cells slots Q (F0 m pc ls (.ref a :: rest)) := by
  have ht := c_castL hv
  simp only [List.mem_cons, List.not_mem_nil, or_false] at ht
  rcases ht with ht | ht | ht | ht
  · exact c_castY (ci := 17) rfl (by decide) q1735 (lw_nw q1758 rfl) hdg S hE hG ht kk
  · exact c_castY (ci := 19) rfl (by decide) q1735 (lw_nw q1752 rfl) hdg S hE hG ht kk
  · exact c_castY (ci := 24) rfl (by decide) q1735 (lw_nw q1740 rfl) hdg S hE hG ht kk
  · exact c_castY (ci := 26) rfl (by decide) q1735 (lw_nw q1746 rfl) hdg S hE hG ht kk
theorem ci_X1_178 {a : Nat} {v : Int32} (hdg : decode cc pc = .ok (.instanceof 178, 3)) (S : CallFix p m c cc nL s args lw_all RX1) (hE : gEnv E s) (hG : gC E G H) (hv : cInst G [18, 20, 25, 27] [14, 21, 23, 26, 28] a = some v) (kk : W p l e R s m args below meth c H locs cells slots Q (F0 m (pc + 3) ls (.int v :: rest))) : W p l e R s m args below meth c H locs cells slots Q (F0 m pc ls (.ref a :: rest)) := by
  unfold cInst at hv
  split at hv
  · next ht =>
    cases hv
    simp only [List.mem_cons, List.not_mem_nil, or_false] at ht
    rcases ht with ht | ht | ht | ht
    · exact c_instY (ci := 17) rfl (by decide) q1735 (lw_nw q1758 rfl) hdg S hE hG ht kk
    · exact c_instY (ci := 19) rfl (by decide) q1735 (lw_nw q1752 rfl) hdg S hE hG ht kk
    · exact c_instY (ci := 24) rfl (by decide) q1735 (lw_nw q1740 rfl) hdg S hE hG ht kk
    · exact c_instY (ci := 26) rfl (by decide) q1735 (lw_nw q1746 rfl) hdg S hE hG ht kk
  · split at hv
    · next ht =>
      cases hv
      simp only [List.mem_cons, List.not_mem_nil, or_false] at ht
      rcases ht with ht | ht | ht | ht | ht
      · exact c_instNo (ci := 13) rfl (by decide) q1735 0 rfl hdg S hE hG ht kk
      · exact c_instNo (ci := 20) rfl (by decide) q1735 11 rfl hdg S hE hG ht kk
      · exact c_instNo (ci := 22) rfl (by decide) q1735 16 rfl hdg S hE hG ht kk
      · exact c_instNo (ci := 25) rfl (by decide) q1735 24 rfl hdg S hE hG ht kk
      · exact c_instNo (ci := 27) rfl (by decide) q1735 27 rfl hdg S hE hG ht kk
    · cases hv
theorem ck_X1_195 {a : Nat} {u : Unit} (hdg : decode cc pc = .ok (.checkcast 195, 3)) (S : CallFix p m c cc nL s args lw_all RX1) (hE : gEnv E s) (hG : gC E G H) (hv : cCast G [14, 18, 20, 26, 27, 28] a = some u) (kk : W p l e R s m args below meth c H locs cells slots Q (F0 m (pc + 3) ls (.ref a :: rest))) : W p l e R s m args below meth c H locs cells slots Q (F0 m pc ls (.ref a :: rest)) := by
  have ht := c_castL hv
  simp only [List.mem_cons, List.not_mem_nil, or_false] at ht
  rcases ht with ht | ht | ht | ht | ht | ht
  · exact c_castY (ci := 13) rfl (by decide) q1825 (lw_nw q1860 rfl) hdg S hE hG ht kk
  · exact c_castY (ci := 17) rfl (by decide) q1825 (lw_nw q1854 rfl) hdg S hE hG ht kk
  · exact c_castY (ci := 19) rfl (by decide) q1825 (lw_nw q1842 rfl) hdg S hE hG ht kk
  · exact c_castY (ci := 25) rfl (by decide) q1825 (lw_nw q1830 rfl) hdg S hE hG ht kk
  · exact c_castY (ci := 26) rfl (by decide) q1825 (lw_nw q1836 rfl) hdg S hE hG ht kk
  · exact c_castY (ci := 27) rfl (by decide) q1825 (lw_nw q1848 rfl) hdg S hE hG ht kk
theorem ci_X1_195 {a : Nat} {v : Int32} (hdg : decode cc pc = .ok (.instanceof 195, 3)) (S : CallFix p m c cc nL s args lw_all RX1) (hE : gEnv E s) (hG : gC E G H) (hv : cInst G [14, 18, 20, 26, 27, 28] [21, 23, 25] a = some v) (kk : W p l e R s m args below meth c H locs cells slots Q (F0 m (pc + 3) ls (.int v :: rest))) : W p l e R s m args below meth c H locs cells slots Q (F0 m pc ls (.ref a :: rest)) := by
  unfold cInst at hv
  split at hv
  · next ht =>
    cases hv
    simp only [List.mem_cons, List.not_mem_nil, or_false] at ht
    rcases ht with ht | ht | ht | ht | ht | ht
    · exact c_instY (ci := 13) rfl (by decide) q1825 (lw_nw q1860 rfl) hdg S hE hG ht kk
    · exact c_instY (ci := 17) rfl (by decide) q1825 (lw_nw q1854 rfl) hdg S hE hG ht kk
    · exact c_instY (ci := 19) rfl (by decide) q1825 (lw_nw q1842 rfl) hdg S hE hG ht kk
    · exact c_instY (ci := 25) rfl (by decide) q1825 (lw_nw q1830 rfl) hdg S hE hG ht kk
    · exact c_instY (ci := 26) rfl (by decide) q1825 (lw_nw q1836 rfl) hdg S hE hG ht kk
    · exact c_instY (ci := 27) rfl (by decide) q1825 (lw_nw q1848 rfl) hdg S hE hG ht kk
  · split at hv
    · next ht =>
      cases hv
      simp only [List.mem_cons, List.not_mem_nil, or_false] at ht
      rcases ht with ht | ht | ht
      · exact c_instNo (ci := 20) rfl (by decide) q1825 12 rfl hdg S hE hG ht kk
      · exact c_instNo (ci := 22) rfl (by decide) q1825 17 rfl hdg S hE hG ht kk
      · exact c_instNo (ci := 24) rfl (by decide) q1825 21 rfl hdg S hE hG ht kk
    · cases hv
theorem ck_X1_208 {a : Nat} {u : Unit} (hdg : decode cc pc = .ok (.checkcast 208, 3)) (S : CallFix p m c cc nL s args lw_all RX1) (hE : gEnv E s) (hG : gC E G H) (hv : cCast G [23, 25, 26, 27] a = some u) (kk : W p l e R s m args below meth c H locs cells slots Q (F0 m (pc + 3) ls (.ref a :: rest))) : W p l e R s m args below meth c H locs cells slots Q (F0 m pc ls (.ref a :: rest)) := by
  have ht := c_castL hv
  simp only [List.mem_cons, List.not_mem_nil, or_false] at ht
  rcases ht with ht | ht | ht | ht
  · exact c_castY (ci := 22) rfl (by decide) q1767 (lw_nw q1772 rfl) hdg S hE hG ht kk
  · exact c_castY (ci := 24) rfl (by decide) q1767 (lw_nw q1778 rfl) hdg S hE hG ht kk
  · exact c_castY (ci := 25) rfl (by decide) q1767 (lw_nw q1784 rfl) hdg S hE hG ht kk
  · exact c_castY (ci := 26) rfl (by decide) q1767 (lw_nw q1790 rfl) hdg S hE hG ht kk
theorem ci_X1_208 {a : Nat} {v : Int32} (hdg : decode cc pc = .ok (.instanceof 208, 3)) (S : CallFix p m c cc nL s args lw_all RX1) (hE : gEnv E s) (hG : gC E G H) (hv : cInst G [23, 25, 26, 27] [14, 18, 20, 21, 28] a = some v) (kk : W p l e R s m args below meth c H locs cells slots Q (F0 m (pc + 3) ls (.int v :: rest))) : W p l e R s m args below meth c H locs cells slots Q (F0 m pc ls (.ref a :: rest)) := by
  unfold cInst at hv
  split at hv
  · next ht =>
    cases hv
    simp only [List.mem_cons, List.not_mem_nil, or_false] at ht
    rcases ht with ht | ht | ht | ht
    · exact c_instY (ci := 22) rfl (by decide) q1767 (lw_nw q1772 rfl) hdg S hE hG ht kk
    · exact c_instY (ci := 24) rfl (by decide) q1767 (lw_nw q1778 rfl) hdg S hE hG ht kk
    · exact c_instY (ci := 25) rfl (by decide) q1767 (lw_nw q1784 rfl) hdg S hE hG ht kk
    · exact c_instY (ci := 26) rfl (by decide) q1767 (lw_nw q1790 rfl) hdg S hE hG ht kk
  · split at hv
    · next ht =>
      cases hv
      simp only [List.mem_cons, List.not_mem_nil, or_false] at ht
      rcases ht with ht | ht | ht | ht | ht
      · exact c_instNo (ci := 13) rfl (by decide) q1767 1 rfl hdg S hE hG ht kk
      · exact c_instNo (ci := 17) rfl (by decide) q1767 5 rfl hdg S hE hG ht kk
      · exact c_instNo (ci := 19) rfl (by decide) q1767 8 rfl hdg S hE hG ht kk
      · exact c_instNo (ci := 20) rfl (by decide) q1767 13 rfl hdg S hE hG ht kk
      · exact c_instNo (ci := 27) rfl (by decide) q1767 28 rfl hdg S hE hG ht kk
    · cases hv
theorem ck_X1_219 {a : Nat} {u : Unit} (hdg : decode cc pc = .ok (.checkcast 219, 3)) (S : CallFix p m c cc nL s args lw_all RX1) (hE : gEnv E s) (hG : gC E G H) (hv : cCast G [21, 25, 26, 27] a = some u) (kk : W p l e R s m args below meth c H locs cells slots Q (F0 m (pc + 3) ls (.ref a :: rest))) : W p l e R s m args below meth c H locs cells slots Q (F0 m pc ls (.ref a :: rest)) := by
  have ht := c_castL hv
  simp only [List.mem_cons, List.not_mem_nil, or_false] at ht
  rcases ht with ht | ht | ht | ht
  · exact c_castY (ci := 20) rfl (by decide) q1796 (lw_nw q1813 rfl) hdg S hE hG ht kk
  · exact c_castY (ci := 24) rfl (by decide) q1796 (lw_nw q1801 rfl) hdg S hE hG ht kk
  · exact c_castY (ci := 25) rfl (by decide) q1796 (lw_nw q1807 rfl) hdg S hE hG ht kk
  · exact c_castY (ci := 26) rfl (by decide) q1796 (lw_nw q1819 rfl) hdg S hE hG ht kk
theorem ci_X1_219 {a : Nat} {v : Int32} (hdg : decode cc pc = .ok (.instanceof 219, 3)) (S : CallFix p m c cc nL s args lw_all RX1) (hE : gEnv E s) (hG : gC E G H) (hv : cInst G [21, 25, 26, 27] [14, 18, 20, 23, 28] a = some v) (kk : W p l e R s m args below meth c H locs cells slots Q (F0 m (pc + 3) ls (.int v :: rest))) : W p l e R s m args below meth c H locs cells slots Q (F0 m pc ls (.ref a :: rest)) := by
  unfold cInst at hv
  split at hv
  · next ht =>
    cases hv
    simp only [List.mem_cons, List.not_mem_nil, or_false] at ht
    rcases ht with ht | ht | ht | ht
    · exact c_instY (ci := 20) rfl (by decide) q1796 (lw_nw q1813 rfl) hdg S hE hG ht kk
    · exact c_instY (ci := 24) rfl (by decide) q1796 (lw_nw q1801 rfl) hdg S hE hG ht kk
    · exact c_instY (ci := 25) rfl (by decide) q1796 (lw_nw q1807 rfl) hdg S hE hG ht kk
    · exact c_instY (ci := 26) rfl (by decide) q1796 (lw_nw q1819 rfl) hdg S hE hG ht kk
  · split at hv
    · next ht =>
      cases hv
      simp only [List.mem_cons, List.not_mem_nil, or_false] at ht
      rcases ht with ht | ht | ht | ht | ht
      · exact c_instNo (ci := 13) rfl (by decide) q1796 2 rfl hdg S hE hG ht kk
      · exact c_instNo (ci := 17) rfl (by decide) q1796 6 rfl hdg S hE hG ht kk
      · exact c_instNo (ci := 19) rfl (by decide) q1796 9 rfl hdg S hE hG ht kk
      · exact c_instNo (ci := 22) rfl (by decide) q1796 18 rfl hdg S hE hG ht kk
      · exact c_instNo (ci := 27) rfl (by decide) q1796 29 rfl hdg S hE hG ht kk
    · cases hv
theorem ck_X1_257 {a : Nat} {u : Unit} (hdg : decode cc pc = .ok (.checkcast 257, 3)) (S : CallFix p m c cc nL s args lw_all RX1) (hE : gEnv E s) (hG : gC E G H) (hv : cCast G [14, 18, 20, 21, 23, 25, 26, 27, 28] a = some u) (kk : W p l e R s m args below meth c H locs cells slots Q (F0 m (pc + 3) ls (.ref a :: rest))) : W p l e R s m args below meth c H locs cells slots Q (F0 m pc ls (.ref a :: rest)) := by
  have ht := c_castL hv
  simp only [List.mem_cons, List.not_mem_nil, or_false] at ht
  rcases ht with ht | ht | ht | ht | ht | ht | ht | ht | ht
  · exact c_castY (ci := 13) rfl (by decide) q2240 (lw_nw q2166 rfl) hdg S hE hG ht kk
  · exact c_castY (ci := 17) rfl (by decide) q2240 (lw_nw q2158 rfl) hdg S hE hG ht kk
  · exact c_castY (ci := 19) rfl (by decide) q2240 (lw_nw q2140 rfl) hdg S hE hG ht kk
  · exact c_castY (ci := 20) rfl (by decide) q2240 (lw_nw q2110 rfl) hdg S hE hG ht kk
  · exact c_castY (ci := 22) rfl (by decide) q2240 (lw_nw q2067 rfl) hdg S hE hG ht kk
  · exact c_castY (ci := 24) rfl (by decide) q2240 (lw_nw q2072 rfl) hdg S hE hG ht kk
  · exact c_castY (ci := 25) rfl (by decide) q2240 (lw_nw q2091 rfl) hdg S hE hG ht kk
  · exact c_castY (ci := 26) rfl (by decide) q2240 (lw_nw q2116 rfl) hdg S hE hG ht kk
  · exact c_castY (ci := 27) rfl (by decide) q2240 (lw_nw q2150 rfl) hdg S hE hG ht kk
theorem ck_X29_4 {a : Nat} {u : Unit} (hdg : decode cc pc = .ok (.checkcast 4, 3)) (S : CallFix p m c cc nL s args lw_all RX29) (hE : gEnv E s) (hG : gC E G H) (hv : cCast G [30, 31, 32, 33, 34, 35] a = some u) (kk : W p l e R s m args below meth c H locs cells slots Q (F0 m (pc + 3) ls (.ref a :: rest))) : W p l e R s m args below meth c H locs cells slots Q (F0 m pc ls (.ref a :: rest)) := by
  have ht := c_castL hv
  simp only [List.mem_cons, List.not_mem_nil, or_false] at ht
  rcases ht with ht | ht | ht | ht | ht | ht
  · exact c_castY (ci := 29) rfl (by decide) q2041 (lw_nw q3404 rfl) hdg S hE hG ht kk
  · exact c_castY (ci := 30) rfl (by decide) q2041 (lw_nw q3405 rfl) hdg S hE hG ht kk
  · exact c_castY (ci := 31) rfl (by decide) q2041 (lw_nw q3406 rfl) hdg S hE hG ht kk
  · exact c_castY (ci := 32) rfl (by decide) q2041 (lw_nw q3407 rfl) hdg S hE hG ht kk
  · exact c_castY (ci := 33) rfl (by decide) q2041 (lw_nw q3403 rfl) hdg S hE hG ht kk
  · exact c_castY (ci := 34) rfl (by decide) q2041 (lw_nw q3402 rfl) hdg S hE hG ht kk
theorem ck_X3_135 {a : Nat} {u : Unit} (hdg : decode cc pc = .ok (.checkcast 135, 3)) (S : CallFix p m c cc nL s args lw_all RX3) (hE : gEnv E s) (hG : gC E G H) (hv : cCast G [13] a = some u) (kk : W p l e R s m args below meth c H locs cells slots Q (F0 m (pc + 3) ls (.ref a :: rest))) : W p l e R s m args below meth c H locs cells slots Q (F0 m pc ls (.ref a :: rest)) := by
  have ht := c_castL hv
  have ht := List.mem_singleton.mp ht
  exact c_castS (ci := 12) rfl (by decide) q897 hdg S hE hG ht kk
theorem ck_X3_190 {a : Nat} {u : Unit} (hdg : decode cc pc = .ok (.checkcast 190, 3)) (S : CallFix p m c cc nL s args lw_all RX3) (hE : gEnv E s) (hG : gC E G H) (hv : cCast G [32] a = some u) (kk : W p l e R s m args below meth c H locs cells slots Q (F0 m (pc + 3) ls (.ref a :: rest))) : W p l e R s m args below meth c H locs cells slots Q (F0 m pc ls (.ref a :: rest)) := by
  have ht := c_castL hv
  have ht := List.mem_singleton.mp ht
  exact c_castS (ci := 31) rfl (by decide) q1561 hdg S hE hG ht kk
theorem ck_X3_197 {a : Nat} {u : Unit} (hdg : decode cc pc = .ok (.checkcast 197, 3)) (S : CallFix p m c cc nL s args lw_all RX3) (hE : gEnv E s) (hG : gC E G H) (hv : cCast G [14, 18, 20, 21, 23, 25, 26, 27, 28] a = some u) (kk : W p l e R s m args below meth c H locs cells slots Q (F0 m (pc + 3) ls (.ref a :: rest))) : W p l e R s m args below meth c H locs cells slots Q (F0 m pc ls (.ref a :: rest)) := by
  have ht := c_castL hv
  simp only [List.mem_cons, List.not_mem_nil, or_false] at ht
  rcases ht with ht | ht | ht | ht | ht | ht | ht | ht | ht
  · exact c_castY (ci := 13) rfl (by decide) q1390 (lw_nw q3401 rfl) hdg S hE hG ht kk
  · exact c_castY (ci := 17) rfl (by decide) q1390 (lw_nw q3400 rfl) hdg S hE hG ht kk
  · exact c_castY (ci := 19) rfl (by decide) q1390 (lw_nw q3398 rfl) hdg S hE hG ht kk
  · exact c_castY (ci := 20) rfl (by decide) q1390 (lw_nw q3396 rfl) hdg S hE hG ht kk
  · exact c_castY (ci := 22) rfl (by decide) q1390 (lw_nw q3393 rfl) hdg S hE hG ht kk
  · exact c_castY (ci := 24) rfl (by decide) q1390 (lw_nw q3394 rfl) hdg S hE hG ht kk
  · exact c_castY (ci := 25) rfl (by decide) q1390 (lw_nw q3395 rfl) hdg S hE hG ht kk
  · exact c_castY (ci := 26) rfl (by decide) q1390 (lw_nw q3397 rfl) hdg S hE hG ht kk
  · exact c_castY (ci := 27) rfl (by decide) q1390 (lw_nw q3399 rfl) hdg S hE hG ht kk
theorem ck_X3_276 {a : Nat} {u : Unit} (hdg : decode cc pc = .ok (.checkcast 276, 3)) (S : CallFix p m c cc nL s args lw_all RX3) (hE : gEnv E s) (hG : gC E G H) (hv : cCast G [14, 20, 21, 27, 28] a = some u) (kk : W p l e R s m args below meth c H locs cells slots Q (F0 m (pc + 3) ls (.ref a :: rest))) : W p l e R s m args below meth c H locs cells slots Q (F0 m pc ls (.ref a :: rest)) := by
  have ht := c_castL hv
  simp only [List.mem_cons, List.not_mem_nil, or_false] at ht
  rcases ht with ht | ht | ht | ht | ht
  · exact c_castY (ci := 13) rfl (by decide) q1391 (lw_nw q1421 rfl) hdg S hE hG ht kk
  · exact c_castY (ci := 19) rfl (by decide) q1391 (lw_nw q1409 rfl) hdg S hE hG ht kk
  · exact c_castY (ci := 20) rfl (by decide) q1391 (lw_nw q1397 rfl) hdg S hE hG ht kk
  · exact c_castY (ci := 26) rfl (by decide) q1391 (lw_nw q1403 rfl) hdg S hE hG ht kk
  · exact c_castY (ci := 27) rfl (by decide) q1391 (lw_nw q1415 rfl) hdg S hE hG ht kk
theorem ci_X3_276 {a : Nat} {v : Int32} (hdg : decode cc pc = .ok (.instanceof 276, 3)) (S : CallFix p m c cc nL s args lw_all RX3) (hE : gEnv E s) (hG : gC E G H) (hv : cInst G [14, 20, 21, 27, 28] [18, 23, 25, 26] a = some v) (kk : W p l e R s m args below meth c H locs cells slots Q (F0 m (pc + 3) ls (.int v :: rest))) : W p l e R s m args below meth c H locs cells slots Q (F0 m pc ls (.ref a :: rest)) := by
  unfold cInst at hv
  split at hv
  · next ht =>
    cases hv
    simp only [List.mem_cons, List.not_mem_nil, or_false] at ht
    rcases ht with ht | ht | ht | ht | ht
    · exact c_instY (ci := 13) rfl (by decide) q1391 (lw_nw q1421 rfl) hdg S hE hG ht kk
    · exact c_instY (ci := 19) rfl (by decide) q1391 (lw_nw q1409 rfl) hdg S hE hG ht kk
    · exact c_instY (ci := 20) rfl (by decide) q1391 (lw_nw q1397 rfl) hdg S hE hG ht kk
    · exact c_instY (ci := 26) rfl (by decide) q1391 (lw_nw q1403 rfl) hdg S hE hG ht kk
    · exact c_instY (ci := 27) rfl (by decide) q1391 (lw_nw q1415 rfl) hdg S hE hG ht kk
  · split at hv
    · next ht =>
      cases hv
      simp only [List.mem_cons, List.not_mem_nil, or_false] at ht
      rcases ht with ht | ht | ht | ht
      · exact c_instNo (ci := 17) rfl (by decide) q1391 4 rfl hdg S hE hG ht kk
      · exact c_instNo (ci := 22) rfl (by decide) q1391 15 rfl hdg S hE hG ht kk
      · exact c_instNo (ci := 24) rfl (by decide) q1391 20 rfl hdg S hE hG ht kk
      · exact c_instNo (ci := 25) rfl (by decide) q1391 23 rfl hdg S hE hG ht kk
    · cases hv
theorem ci_X3_278 {a : Nat} {v : Int32} (hdg : decode cc pc = .ok (.instanceof 278, 3)) (S : CallFix p m c cc nL s args lw_all RX3) (hE : gEnv E s) (hG : gC E G H) (hv : cInst G [28] [14, 18, 20, 21, 23, 25, 26, 27] a = some v) (kk : W p l e R s m args below meth c H locs cells slots Q (F0 m (pc + 3) ls (.int v :: rest))) : W p l e R s m args below meth c H locs cells slots Q (F0 m pc ls (.ref a :: rest)) := by
  unfold cInst at hv
  split at hv
  · next ht =>
    cases hv
    simp only [List.mem_cons, List.not_mem_nil, or_false] at ht
    · exact c_instY (ci := 27) rfl (by decide) q1392 (lw_nw q2320 rfl) hdg S hE hG ht kk
  · split at hv
    · next ht =>
      cases hv
      simp only [List.mem_cons, List.not_mem_nil, or_false] at ht
      rcases ht with ht | ht | ht | ht | ht | ht | ht | ht
      · exact c_instNo (ci := 13) rfl (by decide) q1392 3 rfl hdg S hE hG ht kk
      · exact c_instNo (ci := 17) rfl (by decide) q1392 7 rfl hdg S hE hG ht kk
      · exact c_instNo (ci := 19) rfl (by decide) q1392 10 rfl hdg S hE hG ht kk
      · exact c_instNo (ci := 20) rfl (by decide) q1392 14 rfl hdg S hE hG ht kk
      · exact c_instNo (ci := 22) rfl (by decide) q1392 19 rfl hdg S hE hG ht kk
      · exact c_instNo (ci := 24) rfl (by decide) q1392 22 rfl hdg S hE hG ht kk
      · exact c_instNo (ci := 25) rfl (by decide) q1392 25 rfl hdg S hE hG ht kk
      · exact c_instNo (ci := 26) rfl (by decide) q1392 26 rfl hdg S hE hG ht kk
    · cases hv
theorem ci_X3_289 {a : Nat} {v : Int32} (hdg : decode cc pc = .ok (.instanceof 289, 3)) (S : CallFix p m c cc nL s args lw_all RX3) (hE : gEnv E s) (hG : gC E G H) (hv : cInst G [18, 20, 25, 27] [14, 21, 23, 26, 28] a = some v) (kk : W p l e R s m args below meth c H locs cells slots Q (F0 m (pc + 3) ls (.int v :: rest))) : W p l e R s m args below meth c H locs cells slots Q (F0 m pc ls (.ref a :: rest)) := by
  unfold cInst at hv
  split at hv
  · next ht =>
    cases hv
    simp only [List.mem_cons, List.not_mem_nil, or_false] at ht
    rcases ht with ht | ht | ht | ht
    · exact c_instY (ci := 17) rfl (by decide) q1465 (lw_nw q1758 rfl) hdg S hE hG ht kk
    · exact c_instY (ci := 19) rfl (by decide) q1465 (lw_nw q1752 rfl) hdg S hE hG ht kk
    · exact c_instY (ci := 24) rfl (by decide) q1465 (lw_nw q1740 rfl) hdg S hE hG ht kk
    · exact c_instY (ci := 26) rfl (by decide) q1465 (lw_nw q1746 rfl) hdg S hE hG ht kk
  · split at hv
    · next ht =>
      cases hv
      simp only [List.mem_cons, List.not_mem_nil, or_false] at ht
      rcases ht with ht | ht | ht | ht | ht
      · exact c_instNo (ci := 13) rfl (by decide) q1465 0 rfl hdg S hE hG ht kk
      · exact c_instNo (ci := 20) rfl (by decide) q1465 11 rfl hdg S hE hG ht kk
      · exact c_instNo (ci := 22) rfl (by decide) q1465 16 rfl hdg S hE hG ht kk
      · exact c_instNo (ci := 25) rfl (by decide) q1465 24 rfl hdg S hE hG ht kk
      · exact c_instNo (ci := 27) rfl (by decide) q1465 27 rfl hdg S hE hG ht kk
    · cases hv
theorem ci_X3_291 {a : Nat} {v : Int32} (hdg : decode cc pc = .ok (.instanceof 291, 3)) (S : CallFix p m c cc nL s args lw_all RX3) (hE : gEnv E s) (hG : gC E G H) (hv : cInst G [23, 25, 26, 27] [14, 18, 20, 21, 28] a = some v) (kk : W p l e R s m args below meth c H locs cells slots Q (F0 m (pc + 3) ls (.int v :: rest))) : W p l e R s m args below meth c H locs cells slots Q (F0 m pc ls (.ref a :: rest)) := by
  unfold cInst at hv
  split at hv
  · next ht =>
    cases hv
    simp only [List.mem_cons, List.not_mem_nil, or_false] at ht
    rcases ht with ht | ht | ht | ht
    · exact c_instY (ci := 22) rfl (by decide) q1466 (lw_nw q1772 rfl) hdg S hE hG ht kk
    · exact c_instY (ci := 24) rfl (by decide) q1466 (lw_nw q1778 rfl) hdg S hE hG ht kk
    · exact c_instY (ci := 25) rfl (by decide) q1466 (lw_nw q1784 rfl) hdg S hE hG ht kk
    · exact c_instY (ci := 26) rfl (by decide) q1466 (lw_nw q1790 rfl) hdg S hE hG ht kk
  · split at hv
    · next ht =>
      cases hv
      simp only [List.mem_cons, List.not_mem_nil, or_false] at ht
      rcases ht with ht | ht | ht | ht | ht
      · exact c_instNo (ci := 13) rfl (by decide) q1466 1 rfl hdg S hE hG ht kk
      · exact c_instNo (ci := 17) rfl (by decide) q1466 5 rfl hdg S hE hG ht kk
      · exact c_instNo (ci := 19) rfl (by decide) q1466 8 rfl hdg S hE hG ht kk
      · exact c_instNo (ci := 20) rfl (by decide) q1466 13 rfl hdg S hE hG ht kk
      · exact c_instNo (ci := 27) rfl (by decide) q1466 28 rfl hdg S hE hG ht kk
    · cases hv
theorem ci_X3_293 {a : Nat} {v : Int32} (hdg : decode cc pc = .ok (.instanceof 293, 3)) (S : CallFix p m c cc nL s args lw_all RX3) (hE : gEnv E s) (hG : gC E G H) (hv : cInst G [21, 25, 26, 27] [14, 18, 20, 23, 28] a = some v) (kk : W p l e R s m args below meth c H locs cells slots Q (F0 m (pc + 3) ls (.int v :: rest))) : W p l e R s m args below meth c H locs cells slots Q (F0 m pc ls (.ref a :: rest)) := by
  unfold cInst at hv
  split at hv
  · next ht =>
    cases hv
    simp only [List.mem_cons, List.not_mem_nil, or_false] at ht
    rcases ht with ht | ht | ht | ht
    · exact c_instY (ci := 20) rfl (by decide) q1467 (lw_nw q1813 rfl) hdg S hE hG ht kk
    · exact c_instY (ci := 24) rfl (by decide) q1467 (lw_nw q1801 rfl) hdg S hE hG ht kk
    · exact c_instY (ci := 25) rfl (by decide) q1467 (lw_nw q1807 rfl) hdg S hE hG ht kk
    · exact c_instY (ci := 26) rfl (by decide) q1467 (lw_nw q1819 rfl) hdg S hE hG ht kk
  · split at hv
    · next ht =>
      cases hv
      simp only [List.mem_cons, List.not_mem_nil, or_false] at ht
      rcases ht with ht | ht | ht | ht | ht
      · exact c_instNo (ci := 13) rfl (by decide) q1467 2 rfl hdg S hE hG ht kk
      · exact c_instNo (ci := 17) rfl (by decide) q1467 6 rfl hdg S hE hG ht kk
      · exact c_instNo (ci := 19) rfl (by decide) q1467 9 rfl hdg S hE hG ht kk
      · exact c_instNo (ci := 22) rfl (by decide) q1467 18 rfl hdg S hE hG ht kk
      · exact c_instNo (ci := 27) rfl (by decide) q1467 29 rfl hdg S hE hG ht kk
    · cases hv
theorem ci_X3_295 {a : Nat} {v : Int32} (hdg : decode cc pc = .ok (.instanceof 295, 3)) (S : CallFix p m c cc nL s args lw_all RX3) (hE : gEnv E s) (hG : gC E G H) (hv : cInst G [14, 18, 20, 26, 27, 28] [21, 23, 25] a = some v) (kk : W p l e R s m args below meth c H locs cells slots Q (F0 m (pc + 3) ls (.int v :: rest))) : W p l e R s m args below meth c H locs cells slots Q (F0 m pc ls (.ref a :: rest)) := by
  unfold cInst at hv
  split at hv
  · next ht =>
    cases hv
    simp only [List.mem_cons, List.not_mem_nil, or_false] at ht
    rcases ht with ht | ht | ht | ht | ht | ht
    · exact c_instY (ci := 13) rfl (by decide) q1468 (lw_nw q1860 rfl) hdg S hE hG ht kk
    · exact c_instY (ci := 17) rfl (by decide) q1468 (lw_nw q1854 rfl) hdg S hE hG ht kk
    · exact c_instY (ci := 19) rfl (by decide) q1468 (lw_nw q1842 rfl) hdg S hE hG ht kk
    · exact c_instY (ci := 25) rfl (by decide) q1468 (lw_nw q1830 rfl) hdg S hE hG ht kk
    · exact c_instY (ci := 26) rfl (by decide) q1468 (lw_nw q1836 rfl) hdg S hE hG ht kk
    · exact c_instY (ci := 27) rfl (by decide) q1468 (lw_nw q1848 rfl) hdg S hE hG ht kk
  · split at hv
    · next ht =>
      cases hv
      simp only [List.mem_cons, List.not_mem_nil, or_false] at ht
      rcases ht with ht | ht | ht
      · exact c_instNo (ci := 20) rfl (by decide) q1468 12 rfl hdg S hE hG ht kk
      · exact c_instNo (ci := 22) rfl (by decide) q1468 17 rfl hdg S hE hG ht kk
      · exact c_instNo (ci := 24) rfl (by decide) q1468 21 rfl hdg S hE hG ht kk
    · cases hv
theorem ck_X8_51 {a : Nat} {u : Unit} (hdg : decode cc pc = .ok (.checkcast 51, 3)) (S : CallFix p m c cc nL s args lw_all RX8) (hE : gEnv E s) (hG : gC E G H) (hv : cCast G [29] a = some u) (kk : W p l e R s m args below meth c H locs cells slots Q (F0 m (pc + 3) ls (.ref a :: rest))) : W p l e R s m args below meth c H locs cells slots Q (F0 m pc ls (.ref a :: rest)) := by
  have ht := c_castL hv
  have ht := List.mem_singleton.mp ht
  exact c_castS (ci := 28) rfl (by decide) q2005 hdg S hE hG ht kk
theorem ck_X33_2 {a : Nat} {u : Unit} (hdg : decode cc pc = .ok (.checkcast 2, 3)) (S : CallFix p m c cc nL s args lw_all RX33) (hE : gEnv E s) (hG : gC E G H) (hv : cCast G [36, 37, 38] a = some u) (kk : W p l e R s m args below meth c H locs cells slots Q (F0 m (pc + 3) ls (.ref a :: rest))) : W p l e R s m args below meth c H locs cells slots Q (F0 m pc ls (.ref a :: rest)) := by
  have ht := c_castL hv
  simp only [List.mem_cons, List.not_mem_nil, or_false] at ht
  rcases ht with ht | ht | ht
  · exact c_castY (ci := 35) rfl (by decide) q2204 (lw_nw q3410 rfl) hdg S hE hG ht kk
  · exact c_castY (ci := 36) rfl (by decide) q2204 (lw_nw q3408 rfl) hdg S hE hG ht kk
  · exact c_castY (ci := 37) rfl (by decide) q2204 (lw_nw q3409 rfl) hdg S hE hG ht kk
end CFL
