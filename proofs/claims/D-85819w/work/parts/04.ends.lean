section ENDS
variable {p : Program} {l : Launch} {e : Env} {R : Room} {s : State} {m : MethodId} {args : Array Value} {below : List Frame} {meth : Method} {c : Code} {T : State} {H : Heap} {locs : List Loc} {cells slots : Nat} {Q : State → Prop}
variable {free : Nat → Prop} {I1 : Heap → Prop} {k n pc : Nat} {cc : ByteArray} {ls : Array Slot} {rest : List Value}
theorem e_iret {v : Int32} {ty : FieldType} (hexec : p.tables.exec = Jvm.exec) (hb : c.code = cc) (hr : meth.sig.returnType = some ty) (hlocks : meth.locks = false) (hn : narrow ty (.int v) = .int v) (hI : I1 H) (hf : ∀ q ∈ locs, free q.base) (h4 : cells ≤ k) (h5 : slots ≤ n)
    (hdg : decode cc pc = .ok (.ireturn, 1)) : W p l e R s m args below meth c H locs cells slots (EQ below s free (.returned (some (.int v))) I1 k n) (F0 m pc ls (.int v :: rest)) := by
  intro T hT X
  obtain ⟨fs, hret, hrun, hended, hW, hframe⟩ := X.leave (v := some (.int v)) (fun h => by rw [hr] at h; cases h)
  have hmeth' : T.vm.method? m = some meth := X.method'
  refine ⟨T.setFrames fs, ?_, hrun, hended, by show I1 T.heap; rw [hT]; exact hI, hW, locs, hframe.mono h4 h5, hf⟩
  jvm_step X.here [X.here.top, hexec, hb, hdg, hmeth', hr, hn]
  (try refine ⟨rfl, ?_⟩); (try refine ⟨rfl, ?_⟩)
  first | (intro acts; rw [hret _ acts rfl rfl rfl]) | rw [hret _ _ rfl rfl rfl]
  exact Steps.refl _
theorem e_vret (hexec : p.tables.exec = Jvm.exec) (hb : c.code = cc) (hr : meth.sig.returnType = none) (hlocks : meth.locks = false) (hI : I1 H) (hf : ∀ q ∈ locs, free q.base) (h4 : cells ≤ k) (h5 : slots ≤ n)
    (hdg : decode cc pc = .ok (.return_, 1)) : W p l e R s m args below meth c H locs cells slots (EQ below s free (.returned none) I1 k n) (F0 m pc ls rest) := by
  intro T hT X
  obtain ⟨fs, hret, hrun, hended, hW, hframe⟩ := X.leave (v := none) (fun _ => rfl)
  have hmeth' : T.vm.method? m = some meth := X.method'
  refine ⟨T.setFrames fs, ?_, hrun, hended, by show I1 T.heap; rw [hT]; exact hI, hW, locs, hframe.mono h4 h5, hf⟩
  jvm_step X.here [X.here.top, hexec, hb, hdg, hmeth', hr]
  (try refine ⟨rfl, ?_⟩); (try refine ⟨rfl, ?_⟩)
  first | (intro acts; rw [hret _ acts rfl rfl rfl]) | rw [hret _ _ rfl rfl rfl]
  exact Steps.refl _
theorem e_aret {r : Option Nat} {rt : FieldType} (hexec : p.tables.exec = Jvm.exec) (hb : c.code = cc) (hr : meth.sig.returnType = some rt) (hrt : (∃ n, rt = .object n) ∨ ∃ t, rt = .array t) (hlocks : meth.locks = false) (hI : I1 H) (hf : ∀ q ∈ locs, free q.base) (h4 : cells ≤ k) (h5 : slots ≤ n)
    (hdg : decode cc pc = .ok (.areturn, 1)) : W p l e R s m args below meth c H locs cells slots (EQ below s free (.returned (some (va_rf r))) I1 k n) (F0 m pc ls (va_rf r :: rest)) := by
  intro T hT X
  obtain ⟨fs, hret, hrun, hended, hW, hframe⟩ := X.leave (v := some (va_rf r)) (fun h => by rw [hr] at h; cases h)
  have hmeth' : T.vm.method? m = some meth := X.method'
  refine ⟨T.setFrames fs, ?_, hrun, hended, by show I1 T.heap; rw [hT]; exact hI, hW, locs, hframe.mono h4 h5, hf⟩
  rcases hrt with ⟨n, rfl⟩ | ⟨t, rfl⟩ <;> cases r <;>
    (simp only [va_rf] at hret ⊢
     jvm_step X.here [X.here.top, hexec, hb, hdg, hmeth', hr]
     (try refine ⟨rfl, ?_⟩); (try refine ⟨rfl, ?_⟩)
     first | (intro acts; rw [hret _ acts rfl rfl rfl]) | rw [hret _ _ rfl rfl rfl]
     exact Steps.refl _)
/-- athrow, no handler here covers the place -/
theorem e_athrow {x : Addr} (hexec : p.tables.exec = Jvm.exec) (hb : c.code = cc) (hlocks : meth.locks = false) (hout : ∀ x ∈ c.exceptionTable.toList, covers x pc = false) (hI : I1 H) (hf : ∀ q ∈ locs, free q.base) (h4 : cells ≤ k) (h5 : slots ≤ n)
    (hdg : decode cc pc = .ok (.athrow, 1)) : W p l e R s m args below meth c H locs cells slots (EQ below s free (.threw x) I1 k n) (F0 m pc ls (.ref x :: rest)) := by
  intro T hT X
  obtain ⟨s1, s2, s3, s4, s5⟩ := X.athrowLeaves hexec (g := F0 m pc ls (.ref x :: rest)) rfl rfl rfl hout rfl (by rw [hb]; exact hdg)
  exact ⟨_, s1, s2, s3, by show I1 T.heap; rw [hT]; exact hI, s4, locs, s5.mono h4 h5, hf⟩
theorem no_cover (h : c.exceptionTable.isEmpty = true) : ∀ x ∈ c.exceptionTable.toList, covers x pc = false := by
  intro x hx
  rw [Array.isEmpty_iff] at h
  rw [h] at hx
  simp at hx
end ENDS
