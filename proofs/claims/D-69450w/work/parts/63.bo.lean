/-! ===== the twin: bindings counted ===== -/
set_option maxRecDepth 100000
/-- whether a thing is the one asked for, if one is -/
def oeq : Option Nat → Nat → Bool
  | none, _ => true
  | some e, x => x == e
section BO
variable {s0 : zE} {F : Nat → Option zC} {b : Nat} {s s' : sSt} {w w' : tW} {g g' : sG} {h h' : zH} {d x0 x1 x2 i q m : Nat} {Q : Value → zH → Prop} {E : Nat → zH → Prop}
/-- the reference is that of the thing, or null -/
def isO (g : sG) (c n : Nat) : Option Nat → Prop
  | none => n = 0
  | some i => g.kind n = (c, i)
theorem t_bindingsOf_l {oe oq : Option Nat} (R : tR s0 F b s w g h) (I : sScope s) (hm : g.kind x0 = (1, 0)) (h1 : isO g 32 x1 oe) (h2 : isO g 33 x2 oq) (K : Q (.int (Int32.ofNat (s.bs.filter (fun x => oeq oe (s.bi x).exch && oeq oq (s.bi x).queue)).length)) h) :
    ∀ (k j : Nat), s.bs.length = j + k → zP s0 m_X8_bindingsOf d 5 [some (zr x0), some (zr x1), some (zr x2), some (.int (Int32.ofNat (cnt s.bs (fun x => oeq oe (s.bi x).exch && oeq oq (s.bi x).queue) j))), some (.int (Int32.ofNat j))] [] h Q E
  | k, j, hj => by
    have A := R.2.ar7
    have hle := A.le
    rw [List.length_map] at hle
    refine b_X8_bindingsOf_5 (e_I (R.main hm) fun (z1 : gI h x0 7 = Int32.ofNat s.bs.length) => ?_)
    rw [z1, i_le (by omega) (by omega)]
    refine ⟨fun hl => ?_, fun hl => ?_⟩
    · rw [cnt_all hl]
      exact K
    · obtain ⟨k', rfl⟩ : ∃ k', k = k' + 1 := ⟨k - 1, by omega⟩
      obtain ⟨x, hx5⟩ : ∃ x, s.bs[j]? = some x := ⟨_, List.getElem?_eq_getElem (by omega)⟩
      have hkx := I.bs x (List.mem_of_getElem? hx5)
      have ax := R.al (by decide) (by decide) hkx
      obtain ⟨hkq, hke⟩ := I.bi x hkx
      have hc := cnt_succ (f := fun x => oeq oe (s.bi x).exch && oeq oq (s.bi x).queue) hx5
      have IH := t_bindingsOf_l R I hm h1 h2 K k' (j + 1) (by omega)
      rw [hc] at IH
      have hno : (oeq oe (s.bi x).exch && oeq oq (s.bi x).queue) = false → zP s0 m_X8_bindingsOf d 5 [some (zr x0), some (zr x1), some (zr x2), some (.int (Int32.ofNat (cnt s.bs (fun x => oeq oe (s.bi x).exch && oeq oq (s.bi x).queue) j))), some (.int (Int32.ofNat (j + 1)))] [] h Q E := fun e => by
        simp only [e] at IH
        exact IH
      have hyes : (oeq oe (s.bi x).exch && oeq oq (s.bi x).queue) = true → zP s0 m_X8_bindingsOf d 5 [some (zr x0), some (zr x1), some (zr x2), some (.int (Int32.ofNat (cnt s.bs (fun x => oeq oe (s.bi x).exch && oeq oq (s.bi x).queue) j + 1))), some (.int (Int32.ofNat (j + 1)))] [] h Q E := fun e => by
        simp only [e] at IH
        exact IH
      have h32 : oeq oe (s.bi x).exch = true → zP s0 m_X8_bindingsOf d 32 [some (zr x0), some (zr x1), some (zr x2), some (.int (Int32.ofNat (cnt s.bs (fun x => oeq oe (s.bi x).exch && oeq oq (s.bi x).queue) j))), some (.int (Int32.ofNat j))] [] h Q E := fun e => by
        refine b_X8_bindingsOf_32 ⟨fun h0 => ?_, fun h0 => e_R (R.main hm) fun z2 => ?_⟩
        · rw [i_succ, i_succ]
          refine hyes ?_
          rw [e]
          cases oq with
          | none => rfl
          | some y => exact absurd h0 (R.1.pos h2 (by decide))
        · rw [z2]
          refine g_El R A rfl (by decide) hx5 (by decide) fun z3 => ?_
          rw [z3]
          refine e_R (R.1.cell ax (by decide)) fun (z4 : gR h (g.ref 34 x) 0 = g.ref 33 (s.bi x).queue) => ?_
          rw [z4, i_succ, i_succ]
          cases oq with
          | none => exact absurd h2 h0
          | some y =>
            rw [R.inj (R.al (by decide) (by decide) hkq) h2 (by decide)]
            exact ⟨fun hn => hno (by rw [e, show oeq (some y) (s.bi x).queue = false from beq_false_of_ne hn]; rfl), fun hn => hyes (by rw [e, show oeq (some y) (s.bi x).queue = true from beq_iff_eq.mpr hn]; rfl)⟩
      refine ⟨fun h0 => h32 ?_, fun h0 => e_R (R.main hm) fun z2 => ?_⟩
      · cases oe with
        | none => rfl
        | some y => exact absurd h0 (R.1.pos h1 (by decide))
      · rw [z2]
        refine g_El R A rfl (by decide) hx5 (by decide) fun z3 => ?_
        rw [z3]
        refine e_R (R.1.cell ax (by decide)) fun (z4 : gR h (g.ref 34 x) 1 = g.ref 32 (s.bi x).exch) => ?_
        rw [z4, i_succ]
        cases oe with
        | none => exact absurd h1 h0
        | some y =>
          rw [R.inj (R.al (by decide) (by decide) hke) h1 (by decide)]
          exact ⟨fun hn => hno (by rw [show oeq (some y) (s.bi x).exch = false from beq_false_of_ne hn]; rfl), fun hn => h32 (beq_iff_eq.mpr hn)⟩
theorem t_bindingsOf {oe oq : Option Nat} (R : tR s0 F b s w g h) (I : sScope s) (hm : g.kind x0 = (1, 0)) (h1 : isO g 32 x1 oe) (h2 : isO g 33 x2 oq) (K : Q (.int (Int32.ofNat (s.bs.filter (fun x => oeq oe (s.bi x).exch && oeq oq (s.bi x).queue)).length)) h) : zX s0 m_X8_bindingsOf d [zr x0, zr x1, zr x2] h Q E :=
  c_X8_bindingsOf (t_bindingsOf_l R I hm h1 h2 K s.bs.length 0 (by omega))
end BO
