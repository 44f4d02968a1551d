/-! P OVER S (33): reading: words that are kept, signs, bytes -/
theorem mul0 : iI 31 * 0 = 0 := by decide
section PRK
variable {G : GPl} {s0 : State} {l : Launch} {KK : Nat → Option Nat} {T : Nat → Nat} {lev : Nat} {Q : Outcome → GSt → Prop} {R : Nat → Nat} {σ τ st0 : GSt} {X : SX} {K : KS} {w n s o : Nat} {W : Nat → Prop} {t : TX}
theorem c_shash {b : Nat} {bs : List Nat} (hl : 1 ≤ lev) (g4 : gk σ b = 102) (g6 : gl σ b = bs.length) (g7 : bs.length ≤ 12) (g8 : ∀ (j c : Nat), bs[j]? = some c → gi σ b j = iI (c : Int) ∧ c < 128) (ok : Q (.returned (some (.int (jh 0 bs)))) σ) : CQ (wP G s0 l KK T) mJ14_signedHashCode lev [.int (iI 0), va_rf (some b), .int (iI 0), .int (iI (bs.length : Int))] σ Q := by
  obtain ⟨l', rfl⟩ := Nat.exists_eq_add_of_le' hl
  have e0 : iI 0 + iI (bs.length : Int) = iI (bs.length : Int) := by rw [iI_add]; congr 1; omega
  have key : ∀ (d i : Nat) (h : Int32), i + d = bs.length → jh h (bs.drop i) = jh 0 bs → jJ14_signedHashCode_8 G s0 l KK T l' σ Q h (some b) (iI 0) (iI (bs.length : Int)) (iI (bs.length : Int)) (iI (i : Int)) σ := by
    intro d
    induction d with
    | zero =>
      intro i h hi he
      rw [List.drop_eq_nil_of_le (by omega)] at he
      have he' : h = jh 0 bs := he
      rw [← he'] at ok
      exact tJ14_signedHashCode_8 ⟨fun _ => ok, fun q => absurd (by rw [iI_le (by omega) (by omega) (by omega) (by omega)]; omega) q⟩
    | succ d ih =>
      intro i h hi he
      obtain ⟨c, hc⟩ : ∃ c, bs[i]? = some c := ⟨bs[i]'(by omega), List.getElem?_eq_getElem (by omega)⟩
      obtain ⟨y1, y2⟩ := g8 i c hc
      have ed : bs.drop i = c :: bs.drop (i + 1) := by
        rw [List.drop_eq_getElem_cons (by omega)]
        congr 1
        rw [List.getElem?_eq_getElem (by omega)] at hc
        exact Option.some.inj hc
      rw [ed] at he
      refine tJ14_signedHashCode_8 ⟨fun q => ?_, fun _ => ⟨b, rfl, g4, by rw [g6]; exact iI_in (by omega) (by omega), ?_⟩⟩
      · rw [iI_le (by omega) (by omega) (by omega) (by omega)] at q; omega
      · rw [iI_ix (by omega), y1, b8_and c y2, iI_suc]
        exact ih (i + 1) _ (by omega) he
  refine tJ14_signedHashCode ?_
  rw [e0]
  exact key bs.length 0 0 (by omega) rfl
theorem c_h4 {b : Nat} {bs : List Nat} (hl : 3 ≤ lev) (g4 : gk σ b = 102) (g6 : gl σ b = bs.length) (g7 : bs.length ≤ 12) (g8 : ∀ (j c : Nat), bs[j]? = some c → gi σ b j = iI (c : Int) ∧ c < 128) (hb2 : G.h0.size ≤ b) (ok : Q (.returned (some (.int (jh 0 bs)))) σ) : CQ (wP G s0 l KK T) mJ4_hashCode lev [va_rf (some b)] σ Q := by
  obtain ⟨l', rfl⟩ : ∃ l', lev = l' + 2 := ⟨lev - 2, by omega⟩
  refine tJ4_hashCode ⟨b, rfl, g4, fun q => ?_, fun q => ?_, fun q1 q2 => ?_⟩
  · rw [g6, iI_eq (by omega) (by omega) (by omega) (by omega)] at q
    have : bs = [] := List.eq_nil_of_length_eq_zero (by omega)
    subst this
    exact ok
  · rw [g6, iI_eq (by omega) (by omega) (by omega) (by omega)] at q
    obtain ⟨c, rfl⟩ : ∃ c, bs = [c] := by
      cases bs with
      | nil => simp at q
      | cons c cs => cases cs with
        | nil => exact ⟨c, rfl⟩
        | cons d ds => simp at q; omega
    have e : jh 0 [c] = iI (c : Int) := by
      show iI 31 * 0 + iI (c : Int) = _
      rw [mul0, iI_z, iI_add]; congr 1; omega
    rw [e] at ok
    refine ⟨by rw [g6]; exact iI_in (a := 0) (by show 0 < 1; omega) (by omega), ?_⟩
    obtain ⟨y1, y2⟩ := g8 0 c rfl
    have e2 : ix (iI 0) = 0 := rfl
    rw [e2, y1, b8_and c y2]
    exact ok
  · refine tJ14_vectorizedHashCode ⟨fun _ => ⟨b, rfl, g4, hb2, ?_⟩, fun q => absurd q (by decide), fun q => absurd q (by decide), fun q => absurd q (by decide), fun q => absurd q (by decide), fun q => absurd q (by decide), fun q => absurd q (by decide), fun q => absurd q (by unfold tout; decide)⟩
    rw [g6]
    exact c_shash (by omega) g4 g6 g7 g8 (fun _ => fun _ => ok)
/-- a new text's hash -/
theorem c_hash {a b : Nat} {bs : List Nat} (hl : 5 ≤ lev) (hs : pS σ o a bs) (hb : gr σ a 0 = some b) (h2 : gi σ a 2 = 0) (h3 : gi σ a 3 = 0) (ha : G.h0.size ≤ a) (hb2 : G.h0.size ≤ b) (ok : ∀ j v, (j = 2 ∧ v = jh 0 bs ∧ jh 0 bs ≠ 0) ∨ (j = 3 ∧ jh 0 bs = 0) → pS (gpi a j v σ) o a bs → Q (.returned (some (.int (jh 0 bs)))) (gpi a j v σ)) : CQ (wP G s0 l KK T) mJ3_hashCode lev (.ref a :: []) σ Q := by
  obtain ⟨l', rfl⟩ : ∃ l', lev = l' + 4 := ⟨lev - 4, by omega⟩
  obtain ⟨g1, g2, b', g3, g4, g5, g6, g7, g8⟩ := hs
  have : b' = b := by rw [hb] at g3; cases g3; rfl
  subst this
  have pS' : ∀ j v, j = 2 ∨ j = 3 → pS (gpi a j v σ) o a bs := fun j v hj => by
    refine ⟨g1, by rw [gi_pi, if_neg (by omega)]; exact g2, b', g3, g4, g5, g6, g7, fun i c hc => ?_⟩
    rw [gi_pi, if_neg (fun q => by have q1 := q.1; rw [q1] at g4; omega)]
    exact g8 i c hc
  refine tJ3_hashCode ⟨g1, fun _ => ⟨fun _ => tJ3_isLatin1 ⟨g1, fun _ => fun _ => ⟨fun q => absurd q (by decide), fun _ => ?_⟩, fun q => absurd g2 q⟩, fun q => absurd h3 q⟩, fun q => absurd h2 q⟩
  rw [hb]
  exact c_h4 (by omega) g4 g6 g7 g8 hb2 (fun _ => ⟨fun q => ⟨ha, ok 3 _ (Or.inr ⟨rfl, q⟩) (pS' 3 _ (Or.inr rfl))⟩, fun q => ⟨ha, ok 2 _ (Or.inl ⟨rfl, rfl, q⟩) (pS' 2 _ (Or.inl rfl))⟩⟩)
/-- whether it is one of the words -/
theorem c_kept {a b : Nat} {bs : List Nat} (hl : 6 ≤ lev) (hs : pS σ o a bs) (hb : gr σ a 0 = some b) (h2 : gi σ a 2 = 0) (h3 : gi σ a 3 = 0) (ha : G.h0.size ≤ a) (hb2 : G.h0.size ≤ b) (hT : ∀ w, w < 9 → T (4 + w) ≠ a ∧ pS σ o (T (4 + w)) (kept.getD w [])) (ok : ∀ j v, (j = 2 ∧ v = jh 0 bs ∧ jh 0 bs ≠ 0) ∨ (j = 3 ∧ jh 0 bs = 0) → pS (gpi a j v σ) o a bs → Q (.returned (some (.int (bI (kept.contains bs))))) (gpi a j v σ)) : CQ (wP G s0 l KK T) mX6_isKept lev [va_rf (some a)] σ Q := by
  obtain ⟨l', rfl⟩ : ∃ l', lev = l' + 1 := ⟨lev - 1, by omega⟩
  refine tX6_isKept ⟨a, rfl, hs.1, c_hash (by omega) hs hb h2 h3 ha hb2 (fun j v hj hs1 _ => ?_)⟩
  have ok' := ok j v hj hs1
  have hT1 : ∀ w, w < 9 → pS (gpi a j v σ) o (T (4 + w)) (kept.getD w []) := fun w hw => by
    obtain ⟨q0, q1, q2, b', q3, q4, q5, q6, q7, q8⟩ := hT w hw
    have hba : b' ≠ a := fun q => by rw [q] at q4; have := hs.1; omega
    exact ⟨q1, by rw [gi_pi, if_neg (fun q => q0 q.1)]; exact q2, b', q3, q4, q5, q6, q7, fun i c hc => by rw [gi_pi, if_neg (fun q => hba q.1)]; exact q8 i c hc⟩
  generalize gpi a j v σ = τ1 at hs1 ok' hT1
  have hmem : ∀ w, w < 9 → kept.getD w [] = bs → kept.contains bs = true := fun w hw e => by
    rw [← e, List.getD_eq_getElem?_getD, List.getElem?_eq_getElem (show w < kept.length by show w < 9; omega)]
    exact List.contains_iff_mem.mpr (List.getElem_mem _)
  have hno : (∀ w, w < 9 → kept.getD w [] ≠ bs) → kept.contains bs = false := fun h => by
    apply Bool.eq_false_iff.mpr
    intro q
    obtain ⟨i, hi⟩ := List.mem_iff_getElem?.mp (List.contains_iff_mem.mp q)
    have hi9 : i < 9 := (List.getElem?_eq_some_iff.mp hi).1
    refine h i hi9 ?_
    rw [List.getD_eq_getElem?_getD, hi]
    rfl
  -- the hash of the w-th word
  have hit : ∀ w, w < 9 → jh 0 bs = jhs.getD w 0 → CQ (wP G s0 l KK T) mJ3_equals l' (.ref a :: [va_rf (some (T (4 + w)))]) τ1 (onI (fun r t5 => gle τ1 t5 → ((r = 0 → jX6_isKept_218 G s0 l KK T l' σ Q (some a) (some a) (iI (-1)) t5) ∧ (¬ r = 0 → jX6_isKept_218 G s0 l KK T l' σ Q (some a) (some a) (iI (w : Int)) t5))) (fun x t => gle τ1 t → Q (.threw x) t)) := fun w hw hh => by
    refine c_eq (by omega) hs1 (hT1 w hw) (fun _ => ?_)
    by_cases e : bs = kept.getD w []
    · rw [decide_eq_true e]
      refine ⟨fun q => absurd q (by decide), fun _ => ?_⟩
      rw [hmem w hw e.symm] at ok'
      rcases w with _ | _ | _ | _ | _ | _ | _ | _ | _ | w
      · exact tX6_isKept_218 ⟨fun _ => ok', fun _ => ok', fun _ => ok', fun _ => ok', fun _ => ok', fun _ => ok', fun _ => ok', fun _ => ok', fun _ => ok', fun q => absurd q (by unfold tout; decide)⟩
      · exact tX6_isKept_218 ⟨fun _ => ok', fun _ => ok', fun _ => ok', fun _ => ok', fun _ => ok', fun _ => ok', fun _ => ok', fun _ => ok', fun _ => ok', fun q => absurd q (by unfold tout; decide)⟩
      · exact tX6_isKept_218 ⟨fun _ => ok', fun _ => ok', fun _ => ok', fun _ => ok', fun _ => ok', fun _ => ok', fun _ => ok', fun _ => ok', fun _ => ok', fun q => absurd q (by unfold tout; decide)⟩
      · exact tX6_isKept_218 ⟨fun _ => ok', fun _ => ok', fun _ => ok', fun _ => ok', fun _ => ok', fun _ => ok', fun _ => ok', fun _ => ok', fun _ => ok', fun q => absurd q (by unfold tout; decide)⟩
      · exact tX6_isKept_218 ⟨fun _ => ok', fun _ => ok', fun _ => ok', fun _ => ok', fun _ => ok', fun _ => ok', fun _ => ok', fun _ => ok', fun _ => ok', fun q => absurd q (by unfold tout; decide)⟩
      · exact tX6_isKept_218 ⟨fun _ => ok', fun _ => ok', fun _ => ok', fun _ => ok', fun _ => ok', fun _ => ok', fun _ => ok', fun _ => ok', fun _ => ok', fun q => absurd q (by unfold tout; decide)⟩
      · exact tX6_isKept_218 ⟨fun _ => ok', fun _ => ok', fun _ => ok', fun _ => ok', fun _ => ok', fun _ => ok', fun _ => ok', fun _ => ok', fun _ => ok', fun q => absurd q (by unfold tout; decide)⟩
      · exact tX6_isKept_218 ⟨fun _ => ok', fun _ => ok', fun _ => ok', fun _ => ok', fun _ => ok', fun _ => ok', fun _ => ok', fun _ => ok', fun _ => ok', fun q => absurd q (by unfold tout; decide)⟩
      · exact tX6_isKept_218 ⟨fun _ => ok', fun _ => ok', fun _ => ok', fun _ => ok', fun _ => ok', fun _ => ok', fun _ => ok', fun _ => ok', fun _ => ok', fun q => absurd q (by unfold tout; decide)⟩
      · omega
    · rw [decide_eq_false e]
      refine ⟨fun _ => ?_, fun q => absurd rfl q⟩
      have hf : kept.contains bs = false := hno (fun w' hw' e' => by
        have h1 := jh_kept w' hw'
        rw [e', hh] at h1
        have := jhs_inj w hw w' hw' h1
        subst this
        exact e e'.symm)
      rw [hf] at ok'
      exact tX6_isKept_218 ⟨fun q => absurd q (by decide), fun q => absurd q (by decide), fun q => absurd q (by decide), fun q => absurd q (by decide), fun q => absurd q (by decide), fun q => absurd q (by decide), fun q => absurd q (by decide), fun q => absurd q (by decide), fun q => absurd q (by decide), fun _ => ok'⟩
  refine ⟨fun q => hit 8 (by omega) q, fun q => hit 7 (by omega) q, fun q => hit 6 (by omega) q, fun q => hit 4 (by omega) q, fun q => hit 2 (by omega) q, fun q => hit 5 (by omega) q, fun q => hit 0 (by omega) q, fun q => hit 1 (by omega) q, fun q => hit 3 (by omega) q, fun n1 n2 n3 n4 n5 n6 n7 n8 n9 => ?_⟩
  have hf : kept.contains bs = false := hno (fun w' hw' e' => by
    have h1 := jh_kept w' hw'
    rw [e'] at h1
    rcases w' with _ | _ | _ | _ | _ | _ | _ | _ | _ | w'
    · exact n7 h1
    · exact n8 h1
    · exact n5 h1
    · exact n9 h1
    · exact n4 h1
    · exact n6 h1
    · exact n3 h1
    · exact n2 h1
    · exact n1 h1
    · omega)
  rw [hf] at ok'
  exact tX6_isKept_218 ⟨fun q => absurd q (by decide), fun q => absurd q (by decide), fun q => absurd q (by decide), fun q => absurd q (by decide), fun q => absurd q (by decide), fun q => absurd q (by decide), fun q => absurd q (by decide), fun q => absurd q (by decide), fun q => absurd q (by decide), fun _ => ok'⟩
theorem b8c {m k : Nat} (hm : m < 256) (hk : k < 128) : iI (k : Int) = (iI (m : Int)).toInt8.toInt32 ↔ k = m := by
  have key : ∀ m : Nat, m < 256 → (iI (m : Int)).toInt8.toInt32 = iI (if m < 128 then (m : Int) else (m : Int) - 256) := by decide +kernel
  rw [key m hm, iI_eq (by omega) (by omega) (by split <;> omega) (by split <;> omega)]
  split <;> omega
theorem c_ioc {b c : Nat} {bs : List Nat} (hl : 1 ≤ lev) (g4 : gk σ b = 102) (g6 : gl σ b = bs.length) (g7 : bs.length ≤ 12) (g8 : ∀ (j c : Nat), bs[j]? = some c → gi σ b j = iI (c : Int) ∧ c < 128) (hc : c < 256) (ok : ∀ r : Int, -1 ≤ r → r < 100 → (0 ≤ r ↔ bs.contains c = true) → Q (.returned (some (.int (iI r)))) σ) : CQ (wP G s0 l KK T) mJ4_indexOfChar lev [va_rf (some b), .int (iI (c : Int)), .int (iI 0), .int (iI (bs.length : Int))] σ Q := by
  obtain ⟨l', rfl⟩ := Nat.exists_eq_add_of_le' hl
  have key : ∀ (d i : Nat), i + d = bs.length → (∀ j, j < i → bs[j]? ≠ some c) → jJ4_indexOfChar_7 G s0 l KK T l' σ Q (some b) (iI (c : Int)) (iI 0) (iI (bs.length : Int)) (iI (c : Int)).toInt8.toInt32 (iI (i : Int)) σ := by
    intro d
    induction d with
    | zero =>
      intro i hi hn
      refine tJ4_indexOfChar_7 ⟨fun _ => ok (-1) (by omega) (by omega) ⟨fun q => by omega, fun q => ?_⟩, fun q => absurd (by rw [iI_le (by omega) (by omega) (by omega) (by omega)]; omega) q⟩
      obtain ⟨j, hj⟩ := List.mem_iff_getElem?.mp (List.contains_iff_mem.mp q)
      exact absurd hj (hn j (by have := (List.getElem?_eq_some_iff.mp hj).1; omega))
    | succ d ih =>
      intro i hi hn
      obtain ⟨x, hx⟩ : ∃ x, bs[i]? = some x := ⟨bs[i]'(by omega), List.getElem?_eq_getElem (by omega)⟩
      obtain ⟨y1, y2⟩ := g8 i x hx
      refine tJ4_indexOfChar_7 ⟨fun q => ?_, fun _ => ⟨b, rfl, g4, by rw [g6]; exact iI_in (by omega) (by omega), ?_⟩⟩
      · rw [iI_le (by omega) (by omega) (by omega) (by omega)] at q; omega
      · rw [iI_ix (by omega), y1]
        refine ⟨fun q => ?_, fun q => ?_⟩
        · have : x = c := (b8c hc y2).mp q
          subst this
          exact ok (i : Int) (by omega) (by omega) ⟨fun _ => List.contains_iff_mem.mpr (List.mem_of_getElem? hx), fun _ => by omega⟩
        · rw [iI_suc]
          refine ih (i + 1) (by omega) (fun j hj e => ?_)
          by_cases hji : j = i
          · subst hji
            rw [hx] at e
            cases e
            exact q ((b8c hc y2).mpr rfl)
          · exact hn j (by omega) e
  exact tJ4_indexOfChar (key bs.length 0 (by omega) (fun j hj => by omega))
/-- whether a sign is among those of a text -/
theorem c_index {a c : Nat} {bs : List Nat} (hl : 5 ≤ lev) (hs : pS σ o a bs) (hc : c < 256) (h0 : 0 < bs.length) (ok : ∀ r : Int, -1 ≤ r → r < 100 → (0 ≤ r ↔ bs.contains c = true) → Q (.returned (some (.int (iI r)))) σ) : CQ (wP G s0 l KK T) mJ3_indexOf lev (.ref a :: [.int (iI (c : Int))]) σ Q := by
  obtain ⟨l', rfl⟩ : ∃ l', lev = l' + 4 := ⟨lev - 4, by omega⟩
  have hs0 := hs
  obtain ⟨g1, g2, b, g3, g4, g5, g6, g7, g8⟩ := hs
  refine tJ3_indexOf ⟨g1, tJ3_indexOf_2 ⟨g1, tJ3_isLatin1 ⟨g1, fun _ => fun _ => ⟨fun q => absurd q (by decide), fun _ => c_len (by omega) hs0 (fun _ => ?_)⟩, fun q => absurd g2 q⟩⟩⟩
  rw [g3]
  refine tJ4_indexOf (tJ4_canEncode_2 ⟨fun q => ?_, fun _ => ⟨fun q => ?_, fun _ => fun _ => ⟨fun q => absurd q (by decide), fun _ => ⟨b, rfl, g4, ?_⟩⟩⟩⟩)
  · rw [iI_z, iI_lt (by omega) (by omega) (by omega) (by omega)] at q; omega
  · rw [iI_lt (by omega) (by omega) (by omega) (by omega)] at q; omega
  · have e1 : (if iI 0 < iI 0 then iI 0 else iI 0) = iI 0 := by split <;> rfl
    have e2 : (if iI ((gl σ b : Nat) : Int) < iI (bs.length : Int) then iI ((gl σ b : Nat) : Int) else iI (bs.length : Int)) = iI (bs.length : Int) := by
      rw [g6]; split <;> rfl
    rw [e1, e2]
    refine ⟨fun _ => c_ioc (by omega) g4 g6 g7 g8 hc (fun r r1 r2 r3 => fun _ => fun _ => fun _ => ok r r1 r2 r3), fun q => absurd (by rw [iI_lt (by omega) (by omega) (by omega) (by omega)]; omega) q⟩
/-- letters -/
theorem c_letter {b : Nat} (hl : 1 ≤ lev) (hb : b < 256) (ok : Q (.returned (some (.int (bI (isLet b))))) σ) : CQ (wP G s0 l KK T) mX6_isLetter lev [.int (iI (b : Int))] σ Q := by
  obtain ⟨l', rfl⟩ := Nat.exists_eq_add_of_le' hl
  have yes : (97 ≤ b ∧ b ≤ 122) ∨ (65 ≤ b ∧ b ≤ 90) → Q (.returned (some (.int (iI 1)))) σ := fun h => by
    have e : isLet b = true := by
      unfold isLet
      simp only [Bool.and_eq_true, Bool.or_eq_true, decide_eq_true_eq]
      omega
    rw [e] at ok
    exact ok
  have no : ¬ ((97 ≤ b ∧ b ≤ 122) ∨ (65 ≤ b ∧ b ≤ 90)) → Q (.returned (some (.int (iI 0)))) σ := fun h => by
    have e : isLet b = false := by
      apply Bool.eq_false_iff.mpr
      intro q
      unfold isLet at q
      simp only [Bool.and_eq_true, Bool.or_eq_true, decide_eq_true_eq] at q
      omega
    rw [e] at ok
    exact ok
  have j12 : ¬ (97 ≤ b ∧ b ≤ 122) → jX6_isLetter_12 G s0 l KK T l' σ Q (iI (b : Int)) σ := fun h => by
    refine tX6_isLetter_12 ⟨fun w => no ?_, fun w => ⟨fun w2 => no ?_, fun w2 => tX6_isLetter_24 (yes ?_)⟩⟩
    · rw [iI_lt (by omega) (by omega) (by omega) (by omega)] at w; omega
    · rw [iI_lt (by omega) (by omega) (by omega) (by omega)] at w2; omega
    · rw [iI_lt (by omega) (by omega) (by omega) (by omega)] at w w2; omega
  refine tX6_isLetter ⟨fun w => j12 ?_, fun w => ⟨fun w2 => tX6_isLetter_24 (yes ?_), fun w2 => j12 ?_⟩⟩
  · rw [iI_lt (by omega) (by omega) (by omega) (by omega)] at w; omega
  · rw [iI_lt (by omega) (by omega) (by omega) (by omega)] at w; rw [iI_le (by omega) (by omega) (by omega) (by omega)] at w2; omega
  · rw [iI_le (by omega) (by omega) (by omega) (by omega)] at w2; omega
theorem c_more {b : Nat} (hl : 2 ≤ lev) (hb : b < 256) (ok : Q (.returned (some (.int (bI (isMor b))))) σ) : CQ (wP G s0 l KK T) mX6_isMore lev [.int (iI (b : Int))] σ Q := by
  obtain ⟨l', rfl⟩ := Nat.exists_eq_add_of_le' hl
  have yes : isLet b = true ∨ (48 ≤ b ∧ b ≤ 57) ∨ b = 39 → Q (.returned (some (.int (iI 1)))) σ := fun h => by
    have e : isMor b = true := by
      unfold isMor
      simp only [Bool.and_eq_true, Bool.or_eq_true, decide_eq_true_eq, beq_iff_eq]
      rcases h with h | h
      · exact Or.inl (Or.inl h)
      · omega
    rw [e] at ok
    exact ok
  have no : isLet b = false → ¬ (48 ≤ b ∧ b ≤ 57) → b ≠ 39 → Q (.returned (some (.int (iI 0)))) σ := fun h h1 h2 => by
    have e : isMor b = false := by
      apply Bool.eq_false_iff.mpr
      intro q
      unfold isMor at q
      simp only [Bool.and_eq_true, Bool.or_eq_true, decide_eq_true_eq, beq_iff_eq] at q
      rcases q with (q | q) | q
      · rw [q] at h; cases h
      · omega
      · omega
    rw [e] at ok
    exact ok
  refine tX6_isMore (c_letter (by omega) hb (fun _ => ?_))
  cases hL : isLet b with
  | true => exact ⟨fun w => absurd w (by decide), fun _ => tX6_isMore_25 (yes (Or.inl hL))⟩
  | false =>
    have j19 : ¬ (48 ≤ b ∧ b ≤ 57) → jX6_isMore_19 G s0 l KK T (l' + 1) σ Q (iI (b : Int)) σ := fun h => by
      refine tX6_isMore_19 ⟨fun w => tX6_isMore_25 (yes (Or.inr (Or.inr ?_))), fun w => no hL h (fun q => w (by rw [q]; rfl))⟩
      rw [iI_eq (by omega) (by omega) (by omega) (by omega)] at w; omega
    refine ⟨fun _ => ⟨fun w => j19 ?_, fun w => ⟨fun w2 => tX6_isMore_25 (yes (Or.inr (Or.inl ?_))), fun w2 => j19 ?_⟩⟩, fun w => absurd rfl w⟩
    · rw [iI_lt (by omega) (by omega) (by omega) (by omega)] at w; omega
    · rw [iI_lt (by omega) (by omega) (by omega) (by omega)] at w; rw [iI_le (by omega) (by omega) (by omega) (by omega)] at w2; omega
    · rw [iI_le (by omega) (by omega) (by omega) (by omega)] at w2; omega
end PRK
