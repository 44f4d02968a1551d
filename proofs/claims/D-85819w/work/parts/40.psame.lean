/-! P OVER S (9): comparing -/
def bI (b : Bool) : Int32 := if b then iI 1 else iI 0
/-- locals: each at one address, of one number -/
def LF (L : Nat → Nat → Prop) (σ : GSt) (K : KS) : Prop := (∀ i q, L i q → gk σ q = 18 ∧ i < 1000 + K.fr) ∧ (∀ i q q', L i q → L i q' → q = q') ∧ (∀ i j q, L i q → L j q → i = j)
def sParts (X : SX) (d : Nat) (dx bx rx dy by' ry : V) (K : KS) : SR Bool := sBind (sSame X d (vClo dx rx) (vClo dy ry) K) fun r K =>
  if r then sSame X d (vClo bx (.append (vLoc (1000 + K.fr)) rx)) (vClo by' (.append (vLoc (1000 + K.fr)) ry)) (K.1, K.2.1, K.2.2.1, K.2.2.2.1, K.2.2.2.2.1, K.fr + 1)
  else (K, .ok false)
def sAlike (X : SX) (d : Nat) (x y : V × List V) (K : KS) : SR Bool := match sBinds x.1, sBinds y.1 with
  | some (l, _, dx, bx, rx), some (m, _, dy, by', ry) => if l = m then sParts X d dx bx rx dy by' ry K else (K, .ok false)
  | none, none => if sFront x.1 y.1 && x.2.length == y.2.length then sAll (sSame X d) x.2 y.2 K else (K, .ok false)
  | _, _ => (K, .ok false)
theorem sSame_suc {X : SX} {d : Nat} {a b : V} {K : KS} : sSame X (d + 1) a b K = sBind (sSpend X 5 K) fun _ K => sBind (sHd X a K) fun x K => sBind (sHd X b K) fun y K => sAlike X d x y K := rfl
theorem sFront_ll {i j : Nat} : sFront (vLoc i) (vLoc j) = (i == j) := by rcases i with _ | _ | _ | _ | i <;> rcases j with _ | _ | _ | _ | j <;> rfl
theorem sFront_lc {i : Nat} {t r : V} : sFront (vLoc i) (vClo t r) = false := by rcases i with _ | _ | _ | _ | i <;> rfl
theorem sFront_cl {j : Nat} {t r : V} : sFront (vClo t r) (vLoc j) = false := by unfold sFront; split <;> simp_all [vLoc, vClo]
theorem sBinds_kn {k : Nat} {r : V} : sBinds (vClo (.tag k .nil) r) = none := by rcases k with _ | k <;> rfl
theorem sBinds_so {k : Nat} {r : V} : sBinds (vClo (.tag k (.align true)) r) = none := by rcases k with _ | k <;> rfl
theorem sBinds_prod {k : Nat} {d b r : V} : sBinds (vClo (.tag k (.group (.append d b) .fill)) r) = some (false, k, d, b, r) := by rcases k with _ | k <;> rfl
theorem gV_C {v : V} (h : gV v false) (h0 : v ≠ .line) : gC v ∧ swv v = 0 := by
  unfold gV at h
  split at h
  · cases ‹false = true›
  · cases ‹false = true›
  · exact absurd rfl h0
  · exact ⟨Or.inr ⟨_, _, rfl, gT_up _ _ _ h.1, h.2⟩, sw_false _ _ h.1⟩
  · exact ⟨Or.inl ⟨_, rfl⟩, swv_loc⟩
  · exact h.elim
/-- what is known of both parts of a head that binds -/
theorem gR_binds {X : SX} {u dx bx r : V} {lm : Bool} {p : Nat} (h : gR X u) (hb : sBinds u = some (lm, p, dx, bx, r)) : gT dx false (shp r) ∧ gT bx true (true :: shp r) ∧ gV r true ∧ sw bx ≤ swv u := by
  rcases h with ⟨i, rfl⟩ | ⟨t, r', rfl, h1, h2, h3⟩
  · exfalso; revert hb; rcases i with _ | _ | _ | _ | i <;> intro hb <;> cases hb
  · rcases h3 with ⟨k, rfl, -⟩ | ⟨k, rfl⟩ | ⟨d, b, rfl⟩ | ⟨p', d, b, rfl⟩
    · rw [sBinds_kn] at hb; cases hb
    · rw [sBinds_so] at hb; cases hb
    · cases hb
      exact ⟨h1.1, gT_up _ _ _ h1.2, h2, by rw [sw_false _ _ h1.2]; exact Nat.zero_le _⟩
    · have e : sBinds (vClo (.tag p' (.group (.append d b) .fill)) r') = some (false, p', d, b, r') := by rcases p' with _ | p' <;> rfl
      rw [e] at hb
      cases hb
      have h1' : gT dx false (shp r) ∧ gT bx true (true :: shp r) := by
        revert h1; rcases p with _ | _ | _ | p <;> exact id
      refine ⟨h1'.1, h1'.2, h2, ?_⟩
      have e2 : swv (vClo (.tag p (.group (.append dx bx) .fill)) r) = sw bx := by rcases p with _ | _ | _ | p <;> rfl
      rw [e2]
      exact Nat.le_refl _
section PSM
variable {G : GPl} {s0 : State} {l : Launch} {KK : Nat → Option Nat} {T : Nat → Nat} {lev : Nat} {Q : Outcome → GSt → Prop} {R : Nat → Nat} {σ τ st0 : GSt} {X : SX} {K K' : KS} {w n s : Nat} {c : PC} {L L' : Nat → Nat → Prop}
theorem LF.mv (h : LF L σ K) (hm : mv c c L L σ τ) (hf : K.fr ≤ K'.fr) : LF L τ K' := ⟨fun i q hq => by obtain ⟨h1, h2⟩ := h.1 i q hq; exact ⟨(hm.cl h1 rfl).1, by omega⟩, h.2⟩
theorem MB.in1 (h : MB G R σ X K w n s) : MB G R (gpi (R 2) 8 (gi σ (R 2) 8 + iI 1) σ) X K (w + 1) n s := by
  refine ⟨h.1, ?_, h.2.2.1, h.2.2.2⟩
  obtain ⟨⟨m1, m2, m3⟩, ⟨m4, m5, m6⟩, ⟨m7, m8, m9⟩, m10, ⟨m11, m12, m13, m14, m15⟩, m16⟩ := h.2.1
  have n1 : R 4 ≠ R 2 := fun q => by rw [q] at m2; omega
  have n2 : R 5 ≠ R 2 := fun q => by rw [q] at m3; omega
  refine ⟨⟨m1, m2, m3⟩, ⟨m4, m5, m6⟩, ⟨m7, m8, m9⟩, fun j hj => ?_, ⟨?_, ?_, ?_, ?_, ?_⟩, fun j h1 h2 => ?_⟩
  · rw [gi_pi, if_neg (fun q => n1 q.1)]; exact m10 j hj
  · rw [gi_pi, if_neg (by omega)]; exact m11
  · rw [gi_pi, if_neg (by omega)]; exact m12
  · rw [gi_pi, if_neg (by omega)]; exact m13
  · rw [gi_pi, if_pos ⟨rfl, rfl⟩, m14, iI_suc]
  · rw [gi_pi, if_neg (by omega)]; exact m15
  · rw [gi_pi, if_neg (fun q => n2 q.1)]; exact m16 j h1 h2
theorem MB.out1 (h : MB G R σ X K (w + 1) n s) : MB G R (gpi (R 2) 8 (gi σ (R 2) 8 - iI 1) σ) X K w n s := by
  refine ⟨h.1, ?_, h.2.2.1, h.2.2.2⟩
  obtain ⟨⟨m1, m2, m3⟩, ⟨m4, m5, m6⟩, ⟨m7, m8, m9⟩, m10, ⟨m11, m12, m13, m14, m15⟩, m16⟩ := h.2.1
  have n1 : R 4 ≠ R 2 := fun q => by rw [q] at m2; omega
  have n2 : R 5 ≠ R 2 := fun q => by rw [q] at m3; omega
  refine ⟨⟨m1, m2, m3⟩, ⟨m4, m5, m6⟩, ⟨m7, m8, m9⟩, fun j hj => ?_, ⟨?_, ?_, ?_, ?_, ?_⟩, fun j h1 h2 => ?_⟩
  · rw [gi_pi, if_neg (fun q => n1 q.1)]; exact m10 j hj
  · rw [gi_pi, if_neg (by omega)]; exact m11
  · rw [gi_pi, if_neg (by omega)]; exact m12
  · rw [gi_pi, if_neg (by omega)]; exact m13
  · rw [gi_pi, if_pos ⟨rfl, rfl⟩, m14, iI_prd]
  · rw [gi_pi, if_neg (by omega)]; exact m15
  · rw [gi_pi, if_neg (fun q => n2 q.1)]; exact m16 j h1 h2
theorem keep_in {v : Int32} {j : Nat} : keep (isM R) σ (gpi (R 2) j v σ) := keep.rf.pi (fun _ => Or.inl rfl)
/-- the cell of a head's term -/
theorem pH_tag {u : V} {x y : Option Nat} (hu : pH c L σ u x y) (hg : gR X u) : ∃ a, x = some a ∧ isTmA σ a ∧ (((∃ p dx bx r, sBinds u = some (true, p, dx, bx, r)) ∧ gk σ a = 8) ∨ ((∃ p dx bx r, sBinds u = some (false, p, dx, bx, r)) ∧ gk σ a = 9) ∨ (sBinds u = none ∧ gk σ a ≠ 8 ∧ gk σ a ≠ 9)) := by
  rcases hg with ⟨i, rfl⟩ | ⟨t, r', rfl, h1, h2, h3⟩
  · rw [pH_loc] at hu
    obtain ⟨a, h1, h2, h3⟩ := hu
    exact ⟨a, h1, ⟨17, by decide, h2⟩, Or.inr (Or.inr ⟨by rcases i with _ | _ | _ | _ | i <;> rfl, by omega, by omega⟩)⟩
  · obtain ⟨⟨a, e1, e2⟩, e3⟩ := hu
    refine ⟨a, e1, pT_tm e2, ?_⟩
    rcases h3 with ⟨k, rfl, -⟩ | ⟨k, rfl⟩ | ⟨d, b, rfl⟩ | ⟨p', d, b, rfl⟩
    · have := e2.2.1; exact Or.inr (Or.inr ⟨sBinds_kn, by omega, by omega⟩)
    · have := e2.2.1; exact Or.inr (Or.inr ⟨sBinds_so, by omega, by omega⟩)
    · exact Or.inl ⟨⟨0, d, b, r', rfl⟩, e2.1⟩
    · rw [pT_prod] at e2
      exact Or.inr (Or.inl ⟨⟨p', d, b, r', by rcases p' with _ | p' <;> rfl⟩, e2.1⟩)
/-- the same front -/
theorem c_isFront {u v : V} {x0 y0 x1 y1 : Option Nat} (hl : 1 ≤ lev) (hLF : LF L σ K) (hX : pX c σ X) (hu : pH c L σ u x0 y0) (hv : pH c L σ v x1 y1) (gu : gR X u) (gv : gR X v) (hb : sBinds u = none)
    (ok : Q (.returned (some (.int (bI (sFront u v))))) σ) : CQ (wP G s0 l KK T) mX3_isFront lev [va_rf x0, va_rf x1] σ Q := by
  obtain ⟨l', rfl⟩ := Nat.exists_eq_add_of_le' hl
  obtain ⟨b, hb1, hb2, hb3⟩ := pH_tag hv gv
  rcases gu with ⟨i, rfl⟩ | ⟨t, r', rfl, h1, h2, h3⟩
  · rw [pH_loc] at hu
    obtain ⟨a, e1, e2, e3⟩ := hu
    refine tX3_isFront ⟨a, e1, ⟨17, by decide, e2⟩, fun _ => ⟨fun q => ?_, fun q => ?_⟩, fun q => absurd ⟨a, e1, e2⟩ q⟩
    · rcases gv with ⟨j, rfl⟩ | ⟨t, r', rfl, -⟩
      · rw [pH_loc] at hv
        obtain ⟨b', f1, f2, f3⟩ := hv
        have : a = b' := by rw [e1, f1] at q; cases q; rfl
        subst this
        rw [sFront_ll, hLF.2.2 i j a e3 f3] at ok
        simpa [bI] using ok
      · obtain ⟨⟨b', f1, f2⟩, -⟩ := hv
        have : a = b' := by rw [e1, f1] at q; cases q; rfl
        subst this
        exact absurd e2 (pT_18 f2)
    · rcases gv with ⟨j, rfl⟩ | ⟨t, r', rfl, -⟩
      · rw [pH_loc] at hv
        obtain ⟨b', f1, f2, f3⟩ := hv
        have hij : i ≠ j := by rintro rfl; exact q (by rw [e1, f1, hLF.2.1 i a b' e3 f3])
        rw [sFront_ll, beq_false_of_ne hij] at ok
        exact ok
      · rw [sFront_lc] at ok
        exact ok
  · obtain ⟨⟨a, e1, e2⟩, -⟩ := hu
    have h12 : gk σ a = 12 := by
      rcases h3 with ⟨k, rfl, -⟩ | ⟨k, rfl⟩ | ⟨d, b, rfl⟩ | ⟨p', d, b, rfl⟩
      · exact e2.2.1
      · exact e2.2.1
      · cases hb
      · revert hb; rcases p' with _ | p' <;> intro hb <;> cases hb
    refine tX3_isFront ⟨a, e1, pT_tm e2, fun ⟨a', q1, q2⟩ => ?_, fun _ => ⟨fun _ => ⟨b, hb1, hb2, fun i12 => ?_, fun i12 => ?_⟩, fun q => absurd ⟨a, e1, h12⟩ q⟩⟩
    · rw [e1] at q1; cases q1; omega
    · have hb12 := i12.tag hb1
      rcases gv with ⟨j, rfl⟩ | ⟨t', r'', rfl, g1, g2, g3⟩
      · rw [pH_loc] at hv
        obtain ⟨b', f1, f2, f3⟩ := hv
        rw [hb1] at f1; cases f1; omega
      · obtain ⟨⟨b', f1, f2⟩, -⟩ := hv
        rw [hb1] at f1; cases f1
        rcases h3 with ⟨k, rfl, -⟩ | ⟨k, rfl⟩ | ⟨d, b, rfl⟩ | ⟨p', d, b, rfl⟩
        · obtain ⟨k0, k1, k2, k3, k4⟩ := e2
          rcases g3 with ⟨j, rfl, -⟩ | ⟨j, rfl⟩ | ⟨d, b, rfl⟩ | ⟨p', d, b, rfl⟩
          · obtain ⟨j0, j1, j2, j3, j4⟩ := f2
            have e : sFront (vClo (.tag k .nil) r') (vClo (.tag j .nil) r'') = (k == j) := rfl
            rw [e] at ok
            refine ⟨fun q => ⟨fun _ => ?_, fun q2 => absurd (by rw [k4, j4]) q2⟩, fun q => ?_⟩
            · rw [k3, j3] at q
              have : k = j := hX.2.1 k j k0 j0 (Option.some.inj q)
              subst this
              simpa [bI] using ok
            · have : k ≠ j := by rintro rfl; exact q (by rw [k3, j3])
              rw [beq_false_of_ne this] at ok
              exact ok
          · obtain ⟨j0, j1, j2, j3, j4⟩ := f2
            exact ⟨fun q => (by rw [k3, j3] at q; cases q), fun _ => ok⟩
          · have := f2.1; omega
          · rw [pT_prod] at f2; have := f2.1; omega
        · obtain ⟨k0, k1, k2, k3, k4⟩ := e2
          rcases g3 with ⟨j, rfl, -⟩ | ⟨j, rfl⟩ | ⟨d, b, rfl⟩ | ⟨p', d, b, rfl⟩
          · obtain ⟨j0, j1, j2, j3, j4⟩ := f2
            exact ⟨fun q => (by rw [k3, j3] at q; cases q), fun _ => ok⟩
          · obtain ⟨j0, j1, j2, j3, j4⟩ := f2
            have e : sFront (vClo (.tag k (.align true)) r') (vClo (.tag j (.align true)) r'') = (k == j) := rfl
            rw [e] at ok
            have n8 := hX.2.2.1
            refine ⟨fun _ => ⟨fun q => ?_, fun q => ?_⟩, fun q => absurd (by rw [k3, j3]) q⟩
            · rw [k4, j4, iI_eq (by omega) (by omega) (by omega) (by omega)] at q
              have : k = j := by omega
              subst this
              simpa [bI] using ok
            · have : k ≠ j := by rintro rfl; exact q (by rw [k4, j4])
              rw [beq_false_of_ne this] at ok
              exact ok
          · have := f2.1; omega
          · rw [pT_prod] at f2; have := f2.1; omega
        · cases hb
        · revert hb; rcases p' with _ | p' <;> intro hb <;> cases hb
    · have hf : sFront (vClo t r') v = false := by
        rcases gv with ⟨j, rfl⟩ | ⟨t', r'', rfl, g1, g2, g3⟩
        · exact sFront_cl
        · obtain ⟨⟨b', f1, f2⟩, -⟩ := hv
          rw [hb1] at f1; cases f1
          rcases g3 with ⟨j, rfl, -⟩ | ⟨j, rfl⟩ | ⟨d, b, rfl⟩ | ⟨p', d, b, rfl⟩
          · exact absurd ⟨_, hb1, f2.2.1⟩ i12
          · exact absurd ⟨_, hb1, f2.2.1⟩ i12
          · rcases h3 with ⟨k, rfl, -⟩ | ⟨k, rfl⟩ | ⟨d, b, rfl⟩ | ⟨p', d, b, rfl⟩ <;> first | rfl | cases hb | (revert hb; rcases p' with _ | p' <;> intro hb <;> cases hb)
          · rcases h3 with ⟨k, rfl, -⟩ | ⟨k, rfl⟩ | ⟨d, b, rfl⟩ | ⟨p'', d, b, rfl⟩ <;> first | rfl | cases hb | (revert hb; rcases p'' with _ | p'' <;> intro hb <;> cases hb)
      rw [hf] at ok
      exact ok
end PSM
