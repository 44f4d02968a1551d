/-! P OVER S (17): telling: signs, numbers, names -/
theorem b8_id : ∀ n : Nat, n < 128 → (iI (n : Int)).toInt8.toInt32 = iI (n : Int) := by decide +kernel
theorem b8_and : ∀ n : Nat, n < 128 → iI (n : Int) &&& iI 255 = iI (n : Int) := by decide +kernel
theorem b8_char : ∀ n : Nat, n < 128 → ((iI (n : Int) &&& iI 255).toUInt32 % 65536).toInt32 = iI (n : Int) := by decide +kernel
theorem iI_div {v : Nat} (h : v < 2147483648) : iI (v : Int) / iI 10 = iI ((v / 10 : Nat) : Int) := pk_div (a := v) (d := 10) (by omega) (by omega) (by omega)
theorem iI_rem {v : Nat} (h : v < 2147483648) : iI (v : Int) - iI (v : Int) / iI 10 * iI 10 = iI ((v % 10 : Nat) : Int) := pk_rem (a := v) (d := 10) (by omega) (by omega) (by omega)
theorem iI_sh0 (x : Int32) : x >>> ((0 : Int32) &&& 31) = x := by
  have : ((0 : Int32) &&& 31) = 0 := by decide
  rw [this]
  apply Int32.toBitVec_inj.mp
  simp [Int32.toBitVec_shiftRight]
/-- what may be told yet -/
def OB (K : KS) (o : Nat) : Prop := K.outs + 100 * (60000 - K.life) + o ≤ 2000000000
/-- a text: its bytes; o: what is told, which it is not -/
def pS (σ : GSt) (o a : Nat) (bs : List Nat) : Prop := gk σ a = 23 ∧ gi σ a 1 = 0 ∧ ∃ b, gr σ a 0 = some b ∧ gk σ b = 102 ∧ b ≠ o ∧ gl σ b = bs.length ∧ bs.length ≤ 12 ∧ ∀ (j c : Nat), bs[j]? = some c → gi σ b j = iI (c : Int) ∧ c < 128
/-- the names of the context, of the sorts -/
def pNm (c : PC) (R : Nat → Nat) (σ : GSt) (X : SX) : Prop := (∀ k, k < c.nc → gk σ (c.N k) = 21 ∧ ∃ a, gr σ (c.N k) 0 = some a ∧ pS σ (R 5) a (X.nm k)) ∧ gk σ (R 1) = 2 ∧ gr σ (R 1) 0 = some (R 8) ∧ gk σ (R 8) = 104 ∧ gl σ (R 8) = 8 ∧ c.ns ≤ 8 ∧ ∀ i, i < c.ns → ∃ a, gr σ (R 8) i = some a ∧ pS σ (R 5) a (X.sn i)
/-- locals: what they are told as -/
def LT (L : Nat → Nat → Prop) (σ : GSt) : Prop := ∀ i q, L i q → i < 1000000 ∧ gk σ q = 18 ∧ gi σ q 2 = iI (i : Int)
section PTL
variable {G : GPl} {s0 : State} {l : Launch} {KK : Nat → Option Nat} {T : Nat → Nat} {lev d : Nat} {Q : Outcome → GSt → Prop} {R : Nat → Nat} {σ τ st0 : GSt} {X : SX} {K K' : KS} {w n s o : Nat} {c c' : PC} {L L' : Nat → Nat → Prop} {W : Nat → Prop}
theorem MS.no (h : MS G R σ X K w) {a t : Nat} (ha : gk σ a = t) (h3 : t ≠ 3) (h4 : t ≠ 101) (h5 : t ≠ 102 ∨ a ≠ R 5) : ¬ isM R a := fun q => by
  obtain ⟨⟨m1, m2, m3⟩, -⟩ := h
  rcases q with rfl | rfl | rfl
  · omega
  · omega
  · rcases h5 with h5 | h5
    · omega
    · exact h5 rfl
theorem pS.kp {a : Nat} {bs : List Nat} (h : pS σ (R 5) a bs) (hm : MS G R σ X K w) (hk : keep (isM R) σ τ) : pS τ (R 5) a bs := by
  obtain ⟨h1, h2, b, h3, h4, h5, h6, h7, h8⟩ := h
  obtain ⟨e1, e2, e3, e4⟩ := hk a (by omega) (hm.no h1 (by omega) (by omega) (Or.inl (by omega)))
  obtain ⟨f1, f2, f3, f4⟩ := hk b (by omega) (hm.no h4 (by omega) (by omega) (Or.inr h5))
  exact ⟨e1.trans h1, by rw [e2]; exact h2, b, by rw [e3]; exact h3, f1.trans h4, h5, by rw [f4]; exact h6, h7, fun j c hj => by rw [f2]; exact h8 j c hj⟩
theorem pNm.kp (h : pNm c R σ X) (hm : MS G R σ X K w) (hk : keep (isM R) σ τ) : pNm c R τ X := by
  obtain ⟨h1, h2, h3, h4, h5, h6, h7⟩ := h
  obtain ⟨e1, e2, e3, e4⟩ := hk (R 1) (by omega) (hm.no h2 (by omega) (by omega) (Or.inl (by omega)))
  obtain ⟨f1, f2, f3, f4⟩ := hk (R 8) (by omega) (hm.no h4 (by omega) (by omega) (Or.inl (by omega)))
  refine ⟨fun k hk' => ?_, e1.trans h2, by rw [e3]; exact h3, f1.trans h4, by rw [f4]; exact h5, h6, fun i hi => ?_⟩
  · obtain ⟨g1, a, g2, g3⟩ := h1 k hk'
    obtain ⟨d1, d2, d3, -⟩ := hk (c.N k) (by omega) (hm.no g1 (by omega) (by omega) (Or.inl (by omega)))
    exact ⟨d1.trans g1, a, by rw [d3]; exact g2, g3.kp hm hk⟩
  · obtain ⟨a, g2, g3⟩ := h7 i hi
    exact ⟨a, by rw [f3]; exact g2, g3.kp hm hk⟩
theorem LT.mv (h : LT L σ) (hm : mv c c' L L' σ τ) : LT L τ := fun i q hq => by
  obtain ⟨h1, h2, h3⟩ := h i q hq
  obtain ⟨e1, e2, -⟩ := hm.cl h2 rfl
  exact ⟨h1, e1, by rw [e2]; exact h3⟩
theorem c_put {ch : Nat} (hl : 1 ≤ lev) (hc : ch < 128) (ho : K.outs < 2000000000) (h : MB G R σ X K w n s) (ok : ∀ τ, keep (isM R) σ τ → MB G R τ X (sPut ch K) w n s → (∀ j, gr τ (R 2) j = gr σ (R 2) j) → Q (.returned none) τ) : CQ (wP G s0 l KK T) mX3_put lev (.ref (R 2) :: [.int (iI (ch : Int))]) σ Q := by
  obtain ⟨l', rfl⟩ := Nat.exists_eq_add_of_le' hl
  obtain ⟨⟨m1, m2, m3⟩, ⟨m4, m5, m6⟩, ⟨m7, m8, m9⟩, m10, ⟨m11, m12, m13, m14, m15⟩, m16⟩ := h.2.1
  have n1 : R 4 ≠ R 2 := fun q => by rw [q] at m2; omega
  have n2 : R 5 ≠ R 2 := fun q => by rw [q] at m3; omega
  have n3 : R 4 ≠ R 5 := fun q => by rw [q] at m2; omega
  refine tX3_put ⟨m1, fun q => ?_, fun q => ?_⟩
  · rw [m15, iI_le (by omega) (by omega) (by omega) (by omega)] at q
    rw [m15, iI_suc]
    refine ok _ keep_in ⟨h.1, ⟨⟨m1, m2, m3⟩, ⟨m4, m5, m6⟩, ⟨m7, m8, m9⟩, fun j hj => ?_, ⟨?_, ?_, ?_, ?_, ?_⟩, fun j h1 h2 => ?_⟩, h.2.2.1, h.2.2.2⟩ (fun _ => rfl)
    · rw [gi_pi, if_neg (fun q => n1 q.1)]; exact m10 j hj
    · rw [gi_pi, if_neg (by omega)]; exact m11
    · rw [gi_pi, if_neg (by omega)]; exact m12
    · rw [gi_pi, if_neg (by omega)]; exact m13
    · rw [gi_pi, if_neg (by omega)]; exact m14
    · rw [gi_pi, if_pos ⟨rfl, rfl⟩]; rfl
    · rw [gi_pi, if_neg (fun q => n2 q.1)]
      have e : (sPut ch K).out j = K.out j := by show (if j = K.outs then ch else K.out j) = _; rw [if_neg (by omega)]
      rw [e]
      exact m16 j h1 (by omega)
  · have q' : K.outs < 3000 := by
      rw [m15, iI_le (by omega) (by omega) (by omega) (by omega)] at q; omega
    refine ⟨R 5, m6, m3, m9, by rw [m15, m8]; exact iI_in q' (by omega), ?_⟩
    rw [m15, iI_ix (by omega), b8_id ch hc, b8_id ch hc, gi_pi, if_neg (fun q => n2 q.1.symm), m15, iI_suc]
    refine ok _ ((keep.rf.pi (fun _ => Or.inr (Or.inr rfl))).pi (fun _ => Or.inl rfl)) ⟨h.1, ⟨⟨m1, m2, m3⟩, ⟨m4, m5, m6⟩, ⟨m7, m8, m9⟩, fun j hj => ?_, ⟨?_, ?_, ?_, ?_, ?_⟩, fun j h1 h2 => ?_⟩, h.2.2.1, h.2.2.2⟩ (fun _ => rfl)
    · rw [gi_pi, if_neg (fun q => n1 q.1), gi_pi, if_neg (fun q => n3 q.1)]; exact m10 j hj
    · rw [gi_pi, if_neg (by omega), gi_pi, if_neg (fun q => n2 q.1.symm)]; exact m11
    · rw [gi_pi, if_neg (by omega), gi_pi, if_neg (fun q => n2 q.1.symm)]; exact m12
    · rw [gi_pi, if_neg (by omega), gi_pi, if_neg (fun q => n2 q.1.symm)]; exact m13
    · rw [gi_pi, if_neg (by omega), gi_pi, if_neg (fun q => n2 q.1.symm)]; exact m14
    · rw [gi_pi, if_pos ⟨rfl, rfl⟩]; rfl
    · rw [gi_pi, if_neg (fun q => n2 q.1), gi_pi]
      by_cases hj : j = K.outs
      · subst hj
        rw [if_pos ⟨rfl, rfl⟩]
        show _ = iI ((if K.outs = K.outs then ch else K.out K.outs : Nat) : Int)
        rw [if_pos rfl]
      · rw [if_neg (fun q => hj q.2)]
        have e : (sPut ch K).out j = K.out j := by show (if j = K.outs then ch else K.out j) = _; rw [if_neg hj]
        have h2' : j < K.outs + 1 := h2
        rw [e]
        exact m16 j h1 (by omega)
theorem sPut_life {ch : Nat} {K : KS} : (sPut ch K).life = K.life ∧ (sPut ch K).outs = K.outs + 1 := ⟨rfl, rfl⟩
theorem sNum_k : ∀ (f v : Nat) (K : KS), (sNum f v K).life = K.life ∧ (sNum f v K).outs ≤ K.outs + f := by
  intro f
  induction f with
  | zero => intro v K; exact ⟨rfl, Nat.le_refl _⟩
  | succ f ih =>
    intro v K
    unfold sNum
    split
    · have := ih (v / 10) K
      exact ⟨this.1, by rw [sPut_life.2]; omega⟩
    · exact ⟨rfl, by rw [sPut_life.2]; omega⟩
theorem c_num : ∀ (f v lev : Nat) (σ : GSt) (K : KS) (Q : Outcome → GSt → Prop), v < 10 ^ (f + 1) → v < 2147483648 → f + 2 ≤ lev → K.outs + f < 2000000000 → MB G R σ X K w n s → (∀ τ, keep (isM R) σ τ → MB G R τ X (sNum (f + 1) v K) w n s → (∀ j, gr τ (R 2) j = gr σ (R 2) j) → Q (.returned none) τ) → CQ (wP G s0 l KK T) mX3_number lev (.ref (R 2) :: [.int (iI (v : Int))]) σ Q := by
  intro f
  induction f with
  | zero =>
    intro v lev σ K Q hv hv2 hl ho h ok
    obtain ⟨l', rfl⟩ : ∃ l', lev = l' + 2 := ⟨lev - 2, by omega⟩
    have hv9 : v < 10 := by simpa using hv
    refine tX3_number ⟨fun _ => tX3_number_14 ⟨h.2.1.1.1, ?_⟩, fun q => ?_⟩
    · rw [iI_rem hv2, iI_add, show (48 : Int) + ((v % 10 : Nat) : Int) = ((48 + v % 10 : Nat) : Int) by omega]
      refine c_put (by omega) (by omega) (by omega) h (fun τ k1 b1 g1 _ => ok τ k1 ?_ g1)
      have : sNum 1 v K = sPut (48 + v % 10) K := by unfold sNum; rw [if_neg (by omega)]
      rw [this]
      exact b1
    · exact absurd (by rw [iI_le (by omega) (by omega) (by omega) (by omega)]; omega) q
  | succ f ih =>
    intro v lev σ K Q hv hv2 hl ho h ok
    obtain ⟨l', rfl⟩ : ∃ l', lev = l' + 2 := ⟨lev - 2, by omega⟩
    have fin : ∀ (σ1 : GSt) (K1 : KS), keep (isM R) σ σ1 → MB G R σ1 X K1 w n s → (∀ j, gr σ1 (R 2) j = gr σ (R 2) j) → K1.outs < 2000000000 → sNum (f + 1 + 1) v K = sPut (48 + v % 10) K1 → jX3_number_14 G s0 l KK T (l' + 1) σ Q (R 2) (iI (v : Int)) σ1 := fun σ1 K1 k1 b1 g1 o1 e1 => by
      refine tX3_number_14 ⟨b1.2.1.1.1, ?_⟩
      rw [iI_rem hv2, iI_add, show (48 : Int) + ((v % 10 : Nat) : Int) = ((48 + v % 10 : Nat) : Int) by omega]
      exact c_put (by omega) (by omega) o1 b1 (fun τ k2 b2 g2 _ => ok τ (k1.t2 k2) (by rw [e1]; exact b2) (fun j => (g2 j).trans (g1 j)))
    refine tX3_number ⟨fun q => ?_, fun q => ⟨h.2.1.1.1, ?_⟩⟩
    · rw [iI_le (by omega) (by omega) (by omega) (by omega)] at q
      exact fin σ K keep.rf h (fun _ => rfl) (by omega) (by unfold sNum; rw [if_neg (by omega)])
    · have q' : 9 < v := by
        rw [iI_le (by omega) (by omega) (by omega) (by omega)] at q; omega
      rw [iI_div hv2]
      refine ih (v / 10) (l' + 1) σ K _ (by rw [Nat.pow_succ] at hv; omega) (by omega) (by omega) (by omega) h (fun τ k1 b1 g1 _ => ?_)
      have := sNum_k (f + 1) (v / 10) K
      exact fin τ _ k1 b1 g1 (by omega) (by rw [sNum]; rw [if_pos q'])
theorem c_len {a : Nat} {bs : List Nat} (hl : 2 ≤ lev) (hs : pS σ o a bs) (ok : Q (.returned (some (.int (iI (bs.length : Int))))) σ) : CQ (wP G s0 l KK T) mJ3_length lev (.ref a :: []) σ Q := by
  obtain ⟨l', rfl⟩ := Nat.exists_eq_add_of_le' hl
  obtain ⟨h1, h2, b, h3, h4, h5, h6, h7, h8⟩ := hs
  refine tJ3_length ⟨h1, b, h3, h4, tJ3_coder ⟨h1, by rw [h2]; rfl, fun _ => ?_⟩⟩
  rw [h2, iI_sh0, h6]
  exact ok
theorem c_char {a i ch : Nat} {bs : List Nat} (hl : 4 ≤ lev) (hs : pS σ o a bs) (hi : bs[i]? = some ch) (ok : ch < 128 → Q (.returned (some (.int (iI (ch : Int))))) σ) : CQ (wP G s0 l KK T) mJ3_charAt lev (.ref a :: [.int (iI (i : Int))]) σ Q := by
  obtain ⟨l', rfl⟩ := Nat.exists_eq_add_of_le' hl
  obtain ⟨h1, h2, b, h3, h4, h5, h6, h7, h8⟩ := hs
  obtain ⟨c1, c2⟩ := h8 i ch hi
  have hil : i < bs.length := (List.getElem?_eq_some_iff.mp hi).1
  have e0 : ((iI (ch : Int) &&& iI 255).toUInt32 % 65536).toInt32 = iI (ch : Int) := b8_char ch c2
  have e1 : narrow .char (.int (iI (ch : Int))) = .int (iI (ch : Int)) := by rw [← e0]; exact pk_nc _
  refine tJ3_charAt ⟨h1, tJ3_isLatin1 ⟨h1, fun _ => fun _ => ⟨fun q => absurd q (by decide), fun _ => ?_⟩, fun q => absurd h2 q⟩⟩
  rw [h3]
  refine tJ4_charAt ⟨b, rfl, h4, tJ3_checkIndex (tJ5_checkIndex ⟨fun q => ?_, fun _ => ⟨fun _ => (fun _ => fun _ => ?_), fun q => ?_⟩⟩)⟩
  · rw [iI_z, iI_lt (by omega) (by omega) (by omega) (by omega)] at q; omega
  · refine ⟨iI_in (by omega) (by omega), ?_⟩
    rw [iI_ix (by omega), c1, e0]
    exact ⟨e1, fun _ => ⟨e1, ok c2⟩⟩
  · rw [h6, iI_lt (by omega) (by omega) (by omega) (by omega)] at q; omega
theorem sPuts_k : ∀ (bs : List Nat) (K : KS), (sPuts bs K).life = K.life ∧ (sPuts bs K).outs = K.outs + bs.length := by
  intro bs
  induction bs with
  | nil => intro K; exact ⟨rfl, rfl⟩
  | cons b bs ih => intro K; have := ih (sPut b K); exact ⟨this.1, by show (sPuts bs (sPut b K)).outs = _; rw [this.2, sPut_life.2]; simp; omega⟩
theorem c_puts {a : Nat} {bs : List Nat} (hl : 6 ≤ lev) (hs : pS σ (R 5) a bs) (ho : K.outs + 12 < 2000000000) (h : MB G R σ X K w n s) (ok : ∀ τ, keep (isM R) σ τ → MB G R τ X (sPuts bs K) w n s → (∀ j, gr τ (R 2) j = gr σ (R 2) j) → Q (.returned none) τ) : CQ (wP G s0 l KK T) mX3_put_2 lev (.ref (R 2) :: [va_rf (some a)]) σ Q := by
  obtain ⟨l', rfl⟩ := Nat.exists_eq_add_of_le' hl
  have key : ∀ (d i : Nat) (σ1 : GSt) (K1 : KS), i + d = bs.length → pS σ1 (R 5) a bs → K1.outs + d < 2000000000 → MB G R σ1 X K1 w n s → (∀ τ, keep (isM R) σ1 τ → MB G R τ X (sPuts (bs.drop i) K1) w n s → (∀ j, gr τ (R 2) j = gr σ1 (R 2) j) → Q (.returned none) τ) → jX3_put_2_2 G s0 l KK T (l' + 5) σ Q (R 2) (some a) (iI (i : Int)) σ1 := by
    intro d
    have h12 : bs.length ≤ 12 := hs.2.2.choose_spec.2.2.2.2.1
    induction d with
    | zero =>
      intro i σ1 K1 hi hs1 ho1 h1 ok1
      refine tX3_put_2_2 ⟨a, rfl, hs1.1, c_len (by omega) hs1 (fun _ => ⟨fun _ => ?_, fun q => ?_⟩)⟩
      · refine ok1 σ1 keep.rf ?_ (fun _ => rfl)
        rw [List.drop_eq_nil_of_le (by omega)]
        exact h1
      · exact absurd (by rw [iI_le (by omega) (by omega) (by omega) (by omega)]; omega) q
    | succ d ih =>
      intro i σ1 K1 hi hs1 ho1 h1 ok1
      obtain ⟨ch, hch⟩ : ∃ ch, bs[i]? = some ch := ⟨bs[i]'(by omega), List.getElem?_eq_getElem (by omega)⟩
      have edrop : bs.drop i = ch :: bs.drop (i + 1) := by
        rw [List.drop_eq_getElem_cons (by omega)]
        congr 1
        rw [List.getElem?_eq_getElem (by omega)] at hch
        exact Option.some.inj hch
      refine tX3_put_2_2 ⟨a, rfl, hs1.1, c_len (by omega) hs1 (fun _ => ⟨fun q => ?_, fun _ => c_char (by omega) hs1 hch (fun hc => fun _ => ⟨h1.2.1.1.1, c_put (by omega) hc (by omega) h1 (fun τ k1 b1 g1 _ => ?_)⟩)⟩)⟩
      · rw [iI_le (by omega) (by omega) (by omega) (by omega)] at q; omega
      · rw [iI_suc]
        refine ih (i + 1) τ (sPut ch K1) (by omega) (hs1.kp h1.2.1 k1) (by rw [sPut_life.2]; omega) b1 (fun τ2 k2 b2 g2 => ok1 τ2 (k1.t2 k2) ?_ (fun j => (g2 j).trans (g1 j)))
        rw [edrop]
        exact b2
  exact tX3_put_2 (key bs.length 0 σ K (by omega) hs (by have := hs.2.2.choose_spec.2.2.2.2.1; omega) h ok)
/-- the front's name -/
theorem c_name {u : V} {x y : Option Nat} (hl : 16 ≤ lev) (hLT : LT L σ) (hu : pH c L σ u x y) (gu : gR X u) (hX : pX c σ X) (hN : pNm c R σ X) (ho : K.outs + 13 < 2000000000) (h : MB G R σ X K w n s)
    (ok : ∀ τ, keep (isM R) σ τ → MB G R τ X (sName X u K) w n s → (∀ j, gr τ (R 2) j = gr σ (R 2) j) → Q (.returned none) τ) : CQ (wP G s0 l KK T) mX3_name lev (.ref (R 2) :: [va_rf x]) σ Q := by
  obtain ⟨l', rfl⟩ := Nat.exists_eq_add_of_le' hl
  have m1 := h.2.1.1.1
  rcases gu with ⟨i, rfl⟩ | ⟨t, r', rfl, h1, h2, h3⟩
  · rw [pH_loc] at hu
    obtain ⟨a, e1, e2, e3⟩ := hu
    obtain ⟨i1, i2, i3⟩ := hLT i a e3
    have eN : sName X (vLoc i) K = sNum 12 i (sPut 95 K) := by rcases i with _ | _ | _ | _ | i <;> rfl
    refine tX3_name ⟨a, e1, ⟨17, by decide, e2⟩, fun _ => ⟨m1, c_put (ch := 95) (by omega) (by omega) (by omega) h (fun t6 k1 b1 g1 _ => ?_)⟩, fun q => absurd ⟨a, e1, e2⟩ q⟩
    have : gi t6 a 2 = iI (i : Int) := by rw [(k1 a (by omega) (h.2.1.no e2 (by omega) (by omega) (Or.inl (by omega)))).2.1]; exact i3
    rw [this]
    refine c_num 11 i _ t6 (sPut 95 K) _ (by omega) (by omega) (by omega) (by rw [sPut_life.2]; omega) b1 (fun τ k2 b2 g2 _ => ok τ (k1.t2 k2) ?_ (fun j => (g2 j).trans (g1 j)))
    rw [eN]
    exact b2
  · obtain ⟨⟨a, e1, e2⟩, -⟩ := hu
    refine tX3_name ⟨a, e1, pT_tm e2, fun q => absurd (q.tag e1) (pT_18 e2), fun _ => ?_⟩
    rcases h3 with ⟨k, rfl, -⟩ | ⟨k, rfl⟩ | ⟨d, b, rfl⟩ | ⟨p', d, b, rfl⟩
    · obtain ⟨k0, k1, k2, k3, k4⟩ := e2
      refine ⟨fun _ => ⟨fun e => (by rw [k3] at e; cases e), fun a12 e => ?_⟩, fun q => absurd ⟨a, e1, k1⟩ q⟩
      rw [k3] at e
      cases e
      obtain ⟨n1, sa, n2, n3⟩ := hN.1 k k0
      refine ⟨n1, m1, ?_⟩
      rw [n2]
      exact c_puts (by omega) n3 (by omega) h (fun τ k1 b1 g1 _ => ok τ k1 b1 g1)
    · obtain ⟨k0, k1, k2, k3, k4⟩ := e2
      obtain ⟨n1, n2, n3, n4, n5, n6, n7⟩ := hN
      obtain ⟨sa, n8, n9⟩ := n7 k k0
      refine ⟨fun _ => ⟨fun _ => ⟨m1, R 1, h.2.1.2.1.1, n2, R 8, n3, n4, by rw [k4, n5]; exact iI_in (by omega) (by omega), ?_⟩, fun a12 e => (by rw [k3] at e; cases e)⟩, fun q => absurd ⟨a, e1, k1⟩ q⟩
      rw [k4, iI_ix (by omega), n8]
      exact c_puts (by omega) n9 (by omega) h (fun τ k1 b1 g1 _ => ok τ k1 b1 g1)
    · exact ⟨fun q => (by have := q.tag e1; have := e2.1; omega), fun _ => ok σ keep.rf h (fun _ => rfl)⟩
    · rw [pT_prod] at e2
      refine ⟨fun q => (by have := q.tag e1; have := e2.1; omega), fun _ => ok σ keep.rf ?_ (fun _ => rfl)⟩
      have : sName X (vClo (.tag p' (.group (.append d b) .fill)) r') K = K := rfl
      rw [this]
      exact h
end PTL
