section MROWS
variable {p : Program} {l : Launch} {e : Env} {R : Room} {s : State} {m : MethodId} {args : Array Value} {below : List Frame} {meth : Method} {c : Code} {H : Heap} {locs : List Loc} {cells slots : Nat} {Q : State → Prop}
variable {s0 : State} {P : MPl} {st : MSt} {cc : ByteArray} {pc index : Nat} {ls : Array Slot} {rest : List Value}
/-- what every walk of the model's methods holds -/
def CxM (P : MPl) (s0 : State) (p : Program) (s : State) (m : MethodId) (meth : Method) (c : Code) (cc : ByteArray) (nL : Nat) (ret : Option FieldType) : Prop :=
  p.tables.exec = Jvm.exec ∧ c.code = cc ∧ c.maxLocals = nL ∧ meth.sig.returnType = ret ∧ meth.locks = false ∧ s.vm.findClass RX5 = some m.cls ∧ s0.WarmedH s.vm ∧ MTab P s0 ∧ P.ok
theorem mK_big {k : Nat} (h : 83 ≤ k) : mK k = 9 := by
  unfold mK
  rw [List.getD_eq_getElem?_getD, List.getElem?_eq_none (show mkd.length ≤ k from h)]
  rfl
theorem tyX5_int {k : Nat} (h : mK k = 0) : (TX5 k).2.2.1 = "I" ∧ (TX5 k).2.2.2 = false ∧ k < 83 := by
  have hk : k < 83 := by
    rcases Nat.lt_or_ge k 83 with q | q
    · exact q
    · exfalso
      rw [mK_big q] at h
      exact absurd h (by decide)
  have all : ∀ k, k < 83 → mK k = 0 → (TX5 k).2.2.1 = "I" ∧ (TX5 k).2.2.2 = false := by decide +kernel
  exact ⟨(all k hk h).1, (all k hk h).2, hk⟩
theorem tyX5_bool {k : Nat} (h : mK k = 3) : (TX5 k).2.2.1 = "Z" ∧ (TX5 k).2.2.2 = false ∧ k < 83 := by
  have hk : k < 83 := by
    rcases Nat.lt_or_ge k 83 with q | q
    · exact q
    · exfalso
      rw [mK_big q] at h
      exact absurd h (by decide)
  have all : ∀ k, k < 83 → mK k = 3 → (TX5 k).2.2.1 = "Z" ∧ (TX5 k).2.2.2 = false := by decide +kernel
  exact ⟨(all k hk h).1, (all k hk h).2, hk⟩
/-- the place of a field, at the walk's own start -/
theorem m_found (hW : s0.WarmedH s.vm) (hT : MTab P s0) {k : Nat} (hk : k < 83) : ∃ cf kf fi f kC, s.fieldFound? (TX5 k).1 (TX5 k).2.1 (TX5 k).2.2.1 = some (cf, kf, fi, f) ∧ f.slot = P.iM k ∧ f.isStatic = false ∧ s.vm.findClass RX5 = some P.cM ∧ s.vm.classes[P.cM]? = some kC ∧ kC.kind = .ordinary := by
  have hts := hts_of (args := #[]) hT.1 hW
  obtain ⟨hS, hfc, kC, hkC, hkind⟩ := u_Kn_moved hW.alike hT.2.1
  obtain ⟨cf, kf, fi, f, hi, hsl⟩ := hS k hk
  exact ⟨cf, kf, fi, f, kC, hi, hsl, (u_facts hfc hkC (u_lays hts in_X5 hk) hi).1, hfc, hkC, hkind⟩
theorem m_ownr (k : Nat) : (TX5 k).1 = RX5 := by unfold TX5 RX5; split <;> rfl
theorem m_getv (hx : p.tables.exec = Jvm.exec) (hb : c.code = cc) (hown : s.vm.findClass RX5 = some m.cls) (hW : s0.WarmedH s.vm) (hT : MTab P s0) {k : Nat} (hk : k < 83) (hR : RepM P st H)
    (hlink : (Cond.fieldLink RX5 index RX5 (TX5 k).2.1 (TX5 k).2.2.1).before args s = true) (hdg : decode cc pc = .ok (.getfield index, 3))
    (kk : W p l e R s m args below meth c H locs cells slots Q (F0 m (pc + 3) ls (mval P.ad st k :: rest))) : W p l e R s m args below meth c H locs cells slots Q (F0 m pc ls (.ref P.mo :: rest)) := by
  obtain ⟨cf, kf, fi, f, kC, hi, hsl, hst, -, -, -⟩ := m_found hW hT hk
  obtain ⟨cell, q1, q2, q3, q4⟩ := hR.2.1
  rw [m_ownr] at hi
  refine W.getf hx hb hown hlink hi hst q1 (by rw [q3]; exact fun h => by cases h) (v := mval P.ad st k) ?_ rfl rfl hdg kk
  rw [hsl, q4 k hk]
variable {nL : Nat} {ret : Option FieldType}
theorem m_get (C : CxM P s0 p s m meth c cc nL ret) {k : Nat} (hk : mK k = 0) (hR : RepM P st H) (hlink : Cond.fieldLink RX5 index RX5 (TX5 k).2.1 (TX5 k).2.2.1 ∈ lw_all) (hdg : decode cc pc = .ok (.getfield index, 3))
    (kk : W p l e R s m args below meth c H locs cells slots Q (F0 m (pc + 3) ls (.int (st.1 k) :: rest))) : W p l e R s m args below meth c H locs cells slots Q (F0 m pc ls (.ref P.mo :: rest)) := by
  obtain ⟨hx, hb, -, -, -, hown, hW, hT, -⟩ := C
  refine m_getv hx hb hown hW hT (tyX5_int hk).2.2 hR (hts_of hT.1 hW _ hlink) hdg ?_
  rw [show mval P.ad st k = .int (st.1 k) by unfold mval; rw [hk]; rfl]
  exact kk
theorem m_getz (C : CxM P s0 p s m meth c cc nL ret) {k : Nat} (hk : mK k = 3) (hR : RepM P st H) (hlink : Cond.fieldLink RX5 index RX5 (TX5 k).2.1 (TX5 k).2.2.1 ∈ lw_all) (hdg : decode cc pc = .ok (.getfield index, 3))
    (kk : W p l e R s m args below meth c H locs cells slots Q (F0 m (pc + 3) ls (.int (st.1 k) :: rest))) : W p l e R s m args below meth c H locs cells slots Q (F0 m pc ls (.ref P.mo :: rest)) := by
  obtain ⟨hx, hb, -, -, -, hown, hW, hT, -⟩ := C
  refine m_getv hx hb hown hW hT (tyX5_bool hk).2.2 hR (hts_of hT.1 hW _ hlink) hdg ?_
  rw [show mval P.ad st k = .int (st.1 k) by unfold mval; rw [hk]; rfl]
  exact kk
theorem m_lt {k : Nat} (h : mK k = 1 ∨ mK k = 2) : k < 83 := by
  rcases Nat.lt_or_ge k 83 with q | q
  · exact q
  · exfalso
    rw [mK_big q] at h
    exact absurd h (by decide)
theorem m_geta (C : CxM P s0 p s m meth c cc nL ret) {k : Nat} (hk : mK k = 1 ∨ mK k = 2) (hR : RepM P st H) (hlink : Cond.fieldLink RX5 index RX5 (TX5 k).2.1 (TX5 k).2.2.1 ∈ lw_all) (hdg : decode cc pc = .ok (.getfield index, 3))
    (kk : W p l e R s m args below meth c H locs cells slots Q (F0 m (pc + 3) ls (.ref (P.ad k) :: rest))) : W p l e R s m args below meth c H locs cells slots Q (F0 m pc ls (.ref P.mo :: rest)) := by
  obtain ⟨hx, hb, -, -, -, hown, hW, hT, -⟩ := C
  refine m_getv hx hb hown hW hT (m_lt hk) hR (hts_of hT.1 hW _ hlink) hdg ?_
  rw [show mval P.ad st k = .ref (P.ad k) by unfold mval; rw [if_pos hk]]
  exact kk
theorem m_ald (C : CxM P s0 p s m meth c cc nL ret) {k : Nat} (hk : mK k = 1) (hR : RepM P st H) {i v : Int32} (hv : mget k i st = some v) (hdg : decode cc pc = .ok (.iaload, 1))
    (kk : W p l e R s m args below meth c H locs cells slots Q (F0 m (pc + 1) ls (.int v :: rest))) : W p l e R s m args below meth c H locs cells slots Q (F0 m pc ls (.int i :: .ref (P.ad k) :: rest)) := by
  obtain ⟨hx, hb, -, -, -, hown, hW, hT, -⟩ := C
  unfold mget at hv
  split at hv
  · rename_i hin
    have hin := inB_in hin
    have hlt : i.toNatClampNeg < mL k := Nat.not_le.mp fun q => hin (Or.inr q)
    cases hv
    exact W.iald (v := .int (st.2 k i.toNatClampNeg)) hx hb (hR.2.2.1 k hk) (arrOfT_moved hW.alike hT.2.2 (mL k) (fun j => .int (st.2 k j))) (fun q => by cases q) (by rw [arrV_size]; exact hin) (by rw [arrV_read _ _ hlt]) rfl rfl hdg kk
  · cases hv
theorem m_oth {st2 : MSt} {a : Nat} {H1 : Heap} (hR : RepM P st H) (hok : P.ok) (hz : H1.size = H.size) (oq : ∀ q : Nat, q ≠ a → H1[q]? = H[q]?) (ha : P.h0.size ≤ a)
    (h1 : t_OB P.mo P.cM 83 P.iM H1 (mval P.ad st2)) (h2 : ∀ k, mK k = 1 → H1[P.ad k]? = some (arrV P.cI (mL k) (fun j => .int (st2.2 k j)))) (h3 : a ≠ P.ad 0) : RepM P st2 H1 := by
  obtain ⟨⟨o1, o2⟩, -, -, r4⟩ := hR
  refine ⟨⟨by rw [hz]; exact o1, fun q hq => ?_⟩, h1, h2, ?_⟩
  · rw [oq q (by omega)]; exact o2 q hq
  · rw [oq _ (Ne.symm h3)]; exact r4
theorem m_ast (C : CxM P s0 p s m meth c cc nL ret) {k : Nat} (hk : mK k = 1) (hR : RepM P st H) {i x : Int32} {st2 : MSt} (hv : mset k i x st = some st2) (hdg : decode cc pc = .ok (.iastore, 1)) (hL : ∀ q ∈ locs, freeM P q.base)
    (kk : ∀ (H1 : Heap) (locs1 : List Loc), RepM P st2 H1 → (∀ q ∈ locs1, freeM P q.base) → W p l e R s m args below meth c H1 locs1 cells slots Q (F0 m (pc + 1) ls rest)) : W p l e R s m args below meth c H locs cells slots Q (F0 m pc ls (.int x :: .int i :: .ref (P.ad k) :: rest)) := by
  obtain ⟨hx, hb, -, -, -, hown, hW, hT, hok⟩ := C
  unfold mset at hv
  split at hv
  · rename_i hin
    have hin := inB_in hin
    have hlt : i.toNatClampNeg < mL k := Nat.not_le.mp fun q => hin (Or.inr q)
    cases hv
    have hca := hR.2.2.1 k hk
    refine W.iast hx hb hca (arrOfT_moved hW.alike hT.2.2 (mL k) (fun j => .int (st.2 k j))) (fun q => by cases q) (by rw [arrV_size]; exact hin) rfl rfl hdg fun H1 e z oq => ?_
    refine kk H1 _ (m_oth hR hok z oq (hok.2.1 k (Or.inl hk)).1 ?_ ?_ ?_) (t_lc hL (Or.inr ⟨k, hk, rfl⟩))
    · exact (hR.2.1.kept (oq _ (hok.2.1 k (Or.inl hk)).2.symm))
    · intro j hj
      by_cases hjk : j = k
      · subst hjk
        rw [e]
        rw [arrV_store]
        congr 2
        funext q
        simp only [va_up, if_true]
        by_cases hq : q = i.toNatClampNeg
        · subst hq; simp [updV, upd]
        · simp [updV, upd, hq]
      · rw [oq _ (fun h => hjk (hok.2.2 j k (Or.inl hj) (Or.inl hk) h))]
        rw [hR.2.2.1 j hj]
        simp [va_up, hjk]
    · intro h
      have := hok.2.2 k 0 (Or.inl hk) (Or.inr rfl) h
      subst this
      exact absurd hk (by decide)
  · cases hv
theorem m_putv (hx : p.tables.exec = Jvm.exec) (hb : c.code = cc) (hown : s.vm.findClass RX5 = some m.cls) (hW : s0.WarmedH s.vm) (hT : MTab P s0) (hok : P.ok) {k : Nat} (hk : k < 83) (hm : ¬ (mK k = 1 ∨ mK k = 2)) (hfin : (TX5 k).2.2.2 = false) {ty : FieldType} {x : Int32} (hd : parseFieldDescriptor (TX5 k).2.2.1 = some ty) (hn : narrow ty (.int x) = .int x) (hfit : fits ty (.int x) = true) (hR : RepM P st H)
    (hlink : (Cond.fieldLink RX5 index RX5 (TX5 k).2.1 (TX5 k).2.2.1).before args s = true) (hdg : decode cc pc = .ok (.putfield index, 3)) (hL : ∀ q ∈ locs, freeM P q.base)
    (kk : ∀ (H1 : Heap) (locs1 : List Loc), RepM P (mput k x st) H1 → (∀ q ∈ locs1, freeM P q.base) → W p l e R s m args below meth c H1 locs1 cells slots Q (F0 m (pc + 3) ls rest)) : W p l e R s m args below meth c H locs cells slots Q (F0 m pc ls (.int x :: .ref P.mo :: rest)) := by
  obtain ⟨cf, kf, fi, f, kC, hi, hsl, hst, hfc, hkC, hkind⟩ := m_found hW hT hk
  obtain ⟨cell, q1, q2, q3, q4⟩ := hR.2.1
  have hts := hts_of (args := args) hT.1 hW
  have hlay := hts _ (in_X5 _ (u_in_lay hk))
  unfold u_lay at hlay
  rw [if_neg (by rw [hfin]; decide)] at hlay
  have h6 := u_store hfc hkC hkind hlay hi hd hn hfit
  rw [m_ownr] at hi
  refine W.putK hx hb (f := f) ⟨hown, hlink, ⟨_, _, _, hi⟩, hst⟩ (by rw [q2]; exact h6) q1 q3 (by rw [hsl]; exact k2_hasslot (q4 k hk)) rfl rfl hdg fun H' e1 e2 e3 => ?_
  rw [hsl] at e1 ⊢
  have hap : ∀ x y, x < 83 → y < 83 → x ≠ y → P.iM x ≠ P.iM y := by
    intro x y hx hy hne
    obtain ⟨hS, -⟩ := u_Kn_moved hW.alike hT.2.1
    obtain ⟨_, _, _, fa, hia, ea⟩ := hS x hx
    obtain ⟨_, _, _, fb, hib, eb⟩ := hS y hy
    rw [← ea, ← eb]
    refine u_apart (u_lays hts in_X5 hx) (u_lays hts in_X5 hy) hia hib ?_
    rw [(State.fieldFound?_type hia (tyX5_ok x hx)).1, (State.fieldFound?_type hib (tyX5_ok y hy)).1]
    exact nmX5 x hx y hy hne
  refine kk H' _ (m_oth hR hok e2 e3 hok.1 ?_ ?_ (hok.2.1 0 (Or.inr rfl)).2.symm) (t_lc hL (Or.inl rfl))
  · refine t_OB.to (V := updV (mval P.ad st) k (.int x)) ⟨_, e1, q2, q3, t_set q4 hap hk (.int x)⟩ (fun j hj => ?_)
    by_cases hjk : j = k
    · subst hjk
      simp [updV, mval, hm, mput, upd]
    · simp [updV, mval, hjk, mput, upd]
  · intro j hj
    rw [e3 _ (hok.2.1 j (Or.inl hj)).2]
    exact hR.2.2.1 j hj
theorem m_put (C : CxM P s0 p s m meth c cc nL ret) {k : Nat} (hk : mK k = 0) (hR : RepM P st H) {x : Int32} (hlink : Cond.fieldLink RX5 index RX5 (TX5 k).2.1 (TX5 k).2.2.1 ∈ lw_all) (hdg : decode cc pc = .ok (.putfield index, 3)) (hL : ∀ q ∈ locs, freeM P q.base)
    (kk : ∀ (H1 : Heap) (locs1 : List Loc), RepM P (mput k x st) H1 → (∀ q ∈ locs1, freeM P q.base) → W p l e R s m args below meth c H1 locs1 cells slots Q (F0 m (pc + 3) ls rest)) : W p l e R s m args below meth c H locs cells slots Q (F0 m pc ls (.int x :: .ref P.mo :: rest)) := by
  obtain ⟨hx, hb, -, -, -, hown, hW, hT, hok⟩ := C
  obtain ⟨t1, t2, t3⟩ := tyX5_int hk
  exact m_putv hx hb hown hW hT hok t3 (by rw [hk]; decide) t2 (ty := .int) (by rw [t1]; decide +kernel) rfl rfl hR (hts_of hT.1 hW _ hlink) hdg hL kk
theorem m_putz (C : CxM P s0 p s m meth c cc nL ret) {k : Nat} (hk : mK k = 3) (hR : RepM P st H) {x : Int32} {st2 : MSt} (hv : mputz k x st = some st2) (hlink : Cond.fieldLink RX5 index RX5 (TX5 k).2.1 (TX5 k).2.2.1 ∈ lw_all) (hdg : decode cc pc = .ok (.putfield index, 3)) (hL : ∀ q ∈ locs, freeM P q.base)
    (kk : ∀ (H1 : Heap) (locs1 : List Loc), RepM P st2 H1 → (∀ q ∈ locs1, freeM P q.base) → W p l e R s m args below meth c H1 locs1 cells slots Q (F0 m (pc + 3) ls rest)) : W p l e R s m args below meth c H locs cells slots Q (F0 m pc ls (.int x :: .ref P.mo :: rest)) := by
  obtain ⟨hx, hb, -, -, -, hown, hW, hT, hok⟩ := C
  obtain ⟨t1, t2, t3⟩ := tyX5_bool hk
  unfold mputz at hv
  split at hv
  · rename_i hz
    cases hv
    refine m_putv hx hb hown hW hT hok t3 (by rw [hk]; decide) t2 (ty := .boolean) (by rw [t1]; decide +kernel) ?_ ?_ hR (hts_of hT.1 hW _ hlink) hdg hL kk
    · rcases hz with rfl | rfl <;> rfl
    · rcases hz with rfl | rfl <;> rfl
  · cases hv
end MROWS
