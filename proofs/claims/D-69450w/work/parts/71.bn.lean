/-! ===== states with a new thing ===== -/
set_option maxRecDepth 100000
/-- a message, something sent, a binding, a consumer, an exchange, a queue is new -/
def s_b36 (s : sSt) (v : sEn) : sSt := (s_new s 36).w_en (sUp (s_new s 36).en s.next v)
def s_b37 (s : sSt) (v : sSe) : sSt := s_new (s.w_se (sUp s.se s.next v)) 37
def s_b34 (s : sSt) (v : sBi) : sSt := s_new (s.w_bi (sUp s.bi s.next v)) 34
def s_b35 (s : sSt) (v : sCo) : sSt := s_new (s.w_co (sUp s.co s.next v)) 35
def s_b32 (s : sSt) (v : sEx) : sSt := s_new (s.w_ex (sUp s.ex s.next v)) 32
def s_b33 (s : sSt) (v : sQu) : sSt := s_new (s.w_qu (sUp s.qu s.next v)) 33
/-- a message is put into a queue, and counted -/
def s_in (s : sSt) (q m : Nat) (v : Int32) : sSt := (s_qu s q (fun x => x.w_ents (x.ents ++ [m]))).w_messages v
theorem nw_qu {s : sSt} {k : Nat} : (s_new s k).qu = s.qu := by
  unfold s_new
  rw [wr_qu_knd, wr_qu_next]
theorem nw_ex {s : sSt} {k : Nat} : (s_new s k).ex = s.ex := by
  unfold s_new
  rw [wr_ex_knd, wr_ex_next]
theorem nw_bi {s : sSt} {k : Nat} : (s_new s k).bi = s.bi := by
  unfold s_new
  rw [wr_bi_knd, wr_bi_next]
theorem nw_co {s : sSt} {k : Nat} : (s_new s k).co = s.co := by
  unfold s_new
  rw [wr_co_knd, wr_co_next]
theorem nw_en {s : sSt} {k : Nat} : (s_new s k).en = s.en := by
  unfold s_new
  rw [wr_en_knd, wr_en_next]
theorem nw_se {s : sSt} {k : Nat} : (s_new s k).se = s.se := by
  unfold s_new
  rw [wr_se_knd, wr_se_next]
theorem nw_cn {s : sSt} {k : Nat} : (s_new s k).cn = s.cn := by
  unfold s_new
  rw [wr_cn_knd, wr_cn_next]
theorem nw_ch {s : sSt} {k : Nat} : (s_new s k).ch = s.ch := by
  unfold s_new
  rw [wr_ch_knd, wr_ch_next]
theorem nw_qs {s : sSt} {k : Nat} : (s_new s k).qs = s.qs := by
  unfold s_new
  rw [wr_qs_knd, wr_qs_next]
theorem nw_es {s : sSt} {k : Nat} : (s_new s k).es = s.es := by
  unfold s_new
  rw [wr_es_knd, wr_es_next]
theorem nw_bs {s : sSt} {k : Nat} : (s_new s k).bs = s.bs := by
  unfold s_new
  rw [wr_bs_knd, wr_bs_next]
theorem nw_cs {s : sSt} {k : Nat} : (s_new s k).cs = s.cs := by
  unfold s_new
  rw [wr_cs_knd, wr_cs_next]
theorem nw_dead {s : sSt} {k : Nat} : (s_new s k).dead = s.dead := by
  unfold s_new
  rw [wr_dead_knd, wr_dead_next]
theorem nw_facts {s : sSt} {k : Nat} : (s_new s k).facts = s.facts := by
  unfold s_new
  rw [wr_facts_knd, wr_facts_next]
theorem nw_sqs {s : sSt} {k : Nat} : (s_new s k).sqs = s.sqs := by
  unfold s_new
  rw [wr_sqs_knd, wr_sqs_next]
theorem nw_ses {s : sSt} {k : Nat} : (s_new s k).ses = s.ses := by
  unfold s_new
  rw [wr_ses_knd, wr_ses_next]
theorem nw_sbs {s : sSt} {k : Nat} : (s_new s k).sbs = s.sbs := by
  unfold s_new
  rw [wr_sbs_knd, wr_sbs_next]
theorem nw_sen {s : sSt} {k : Nat} : (s_new s k).sen = s.sen := by
  unfold s_new
  rw [wr_sen_knd, wr_sen_next]
theorem nw_messages {s : sSt} {k : Nat} : (s_new s k).messages = s.messages := by
  unfold s_new
  rw [wr_messages_knd, wr_messages_next]
theorem nw_lastNum {s : sSt} {k : Nat} : (s_new s k).lastNum = s.lastNum := by
  unfold s_new
  rw [wr_lastNum_knd, wr_lastNum_next]
theorem nw_gener {s : sSt} {k : Nat} : (s_new s k).gener = s.gener := by
  unfold s_new
  rw [wr_gener_knd, wr_gener_next]
theorem nw_clock {s : sSt} {k : Nat} : (s_new s k).clock = s.clock := by
  unfold s_new
  rw [wr_clock_knd, wr_clock_next]
theorem nw_deadOnes {s : sSt} {k : Nat} : (s_new s k).deadOnes = s.deadOnes := by
  unfold s_new
  rw [wr_deadOnes_knd, wr_deadOnes_next]
theorem nw_crashes {s : sSt} {k : Nat} : (s_new s k).crashes = s.crashes := by
  unfold s_new
  rw [wr_crashes_knd, wr_crashes_next]
theorem nw_tape {s : sSt} {k : Nat} : (s_new s k).tape = s.tape := by
  unfold s_new
  rw [wr_tape_knd, wr_tape_next]
theorem nw_next {s : sSt} {k : Nat} : (s_new s k).next = s.next + 1 := by
  unfold s_new
  rw [wr_next_knd, wr_next]
theorem nw_knd {s : sSt} {k : Nat} : (s_new s k).knd = sUp s.knd s.next k := by
  unfold s_new
  rw [wr_knd]
theorem b36_qu {s : sSt} {v : sEn} : (s_b36 s v).qu = s.qu := by
  unfold s_b36
  rw [wr_qu_en, nw_qu]
theorem b36_ex {s : sSt} {v : sEn} : (s_b36 s v).ex = s.ex := by
  unfold s_b36
  rw [wr_ex_en, nw_ex]
theorem b36_bi {s : sSt} {v : sEn} : (s_b36 s v).bi = s.bi := by
  unfold s_b36
  rw [wr_bi_en, nw_bi]
theorem b36_co {s : sSt} {v : sEn} : (s_b36 s v).co = s.co := by
  unfold s_b36
  rw [wr_co_en, nw_co]
theorem b36_en {s : sSt} {v : sEn} : (s_b36 s v).en = sUp s.en s.next v := by
  unfold s_b36
  rw [wr_en, nw_en]
theorem b36_se {s : sSt} {v : sEn} : (s_b36 s v).se = s.se := by
  unfold s_b36
  rw [wr_se_en, nw_se]
theorem b36_cn {s : sSt} {v : sEn} : (s_b36 s v).cn = s.cn := by
  unfold s_b36
  rw [wr_cn_en, nw_cn]
theorem b36_ch {s : sSt} {v : sEn} : (s_b36 s v).ch = s.ch := by
  unfold s_b36
  rw [wr_ch_en, nw_ch]
theorem b36_qs {s : sSt} {v : sEn} : (s_b36 s v).qs = s.qs := by
  unfold s_b36
  rw [wr_qs_en, nw_qs]
theorem b36_es {s : sSt} {v : sEn} : (s_b36 s v).es = s.es := by
  unfold s_b36
  rw [wr_es_en, nw_es]
theorem b36_bs {s : sSt} {v : sEn} : (s_b36 s v).bs = s.bs := by
  unfold s_b36
  rw [wr_bs_en, nw_bs]
theorem b36_cs {s : sSt} {v : sEn} : (s_b36 s v).cs = s.cs := by
  unfold s_b36
  rw [wr_cs_en, nw_cs]
theorem b36_dead {s : sSt} {v : sEn} : (s_b36 s v).dead = s.dead := by
  unfold s_b36
  rw [wr_dead_en, nw_dead]
theorem b36_facts {s : sSt} {v : sEn} : (s_b36 s v).facts = s.facts := by
  unfold s_b36
  rw [wr_facts_en, nw_facts]
theorem b36_sqs {s : sSt} {v : sEn} : (s_b36 s v).sqs = s.sqs := by
  unfold s_b36
  rw [wr_sqs_en, nw_sqs]
theorem b36_ses {s : sSt} {v : sEn} : (s_b36 s v).ses = s.ses := by
  unfold s_b36
  rw [wr_ses_en, nw_ses]
theorem b36_sbs {s : sSt} {v : sEn} : (s_b36 s v).sbs = s.sbs := by
  unfold s_b36
  rw [wr_sbs_en, nw_sbs]
theorem b36_sen {s : sSt} {v : sEn} : (s_b36 s v).sen = s.sen := by
  unfold s_b36
  rw [wr_sen_en, nw_sen]
theorem b36_messages {s : sSt} {v : sEn} : (s_b36 s v).messages = s.messages := by
  unfold s_b36
  rw [wr_messages_en, nw_messages]
theorem b36_lastNum {s : sSt} {v : sEn} : (s_b36 s v).lastNum = s.lastNum := by
  unfold s_b36
  rw [wr_lastNum_en, nw_lastNum]
theorem b36_gener {s : sSt} {v : sEn} : (s_b36 s v).gener = s.gener := by
  unfold s_b36
  rw [wr_gener_en, nw_gener]
theorem b36_clock {s : sSt} {v : sEn} : (s_b36 s v).clock = s.clock := by
  unfold s_b36
  rw [wr_clock_en, nw_clock]
theorem b36_deadOnes {s : sSt} {v : sEn} : (s_b36 s v).deadOnes = s.deadOnes := by
  unfold s_b36
  rw [wr_deadOnes_en, nw_deadOnes]
theorem b36_crashes {s : sSt} {v : sEn} : (s_b36 s v).crashes = s.crashes := by
  unfold s_b36
  rw [wr_crashes_en, nw_crashes]
theorem b36_tape {s : sSt} {v : sEn} : (s_b36 s v).tape = s.tape := by
  unfold s_b36
  rw [wr_tape_en, nw_tape]
theorem b36_next {s : sSt} {v : sEn} : (s_b36 s v).next = s.next + 1 := by
  unfold s_b36
  rw [wr_next_en, nw_next]
theorem b36_knd {s : sSt} {v : sEn} : (s_b36 s v).knd = sUp s.knd s.next 36 := by
  unfold s_b36
  rw [wr_knd_en, nw_knd]
theorem bn36 {s : sSt} {v : sEn} : sBn s (s_b36 s v) 36 := ⟨b36_knd, fun j hj => ⟨by rw [b36_qu], by rw [b36_ex], by rw [b36_bi], by rw [b36_co], by rw [b36_en]; exact sUp_ne hj, by rw [b36_se]⟩, b36_cn, b36_ch, b36_qs, b36_es, b36_bs, b36_cs, b36_dead, b36_facts, b36_sqs, b36_ses, b36_sbs, b36_sen, b36_tape⟩
theorem b36_at {s : sSt} {v : sEn} : (s_b36 s v).en s.next = v := by
  rw [b36_en]
  exact sUp_self
theorem b37_qu {s : sSt} {v : sSe} : (s_b37 s v).qu = s.qu := by
  unfold s_b37
  rw [nw_qu, wr_qu_se]
theorem b37_ex {s : sSt} {v : sSe} : (s_b37 s v).ex = s.ex := by
  unfold s_b37
  rw [nw_ex, wr_ex_se]
theorem b37_bi {s : sSt} {v : sSe} : (s_b37 s v).bi = s.bi := by
  unfold s_b37
  rw [nw_bi, wr_bi_se]
theorem b37_co {s : sSt} {v : sSe} : (s_b37 s v).co = s.co := by
  unfold s_b37
  rw [nw_co, wr_co_se]
theorem b37_en {s : sSt} {v : sSe} : (s_b37 s v).en = s.en := by
  unfold s_b37
  rw [nw_en, wr_en_se]
theorem b37_se {s : sSt} {v : sSe} : (s_b37 s v).se = sUp s.se s.next v := by
  unfold s_b37
  rw [nw_se, wr_se]
theorem b37_cn {s : sSt} {v : sSe} : (s_b37 s v).cn = s.cn := by
  unfold s_b37
  rw [nw_cn, wr_cn_se]
theorem b37_ch {s : sSt} {v : sSe} : (s_b37 s v).ch = s.ch := by
  unfold s_b37
  rw [nw_ch, wr_ch_se]
theorem b37_qs {s : sSt} {v : sSe} : (s_b37 s v).qs = s.qs := by
  unfold s_b37
  rw [nw_qs, wr_qs_se]
theorem b37_es {s : sSt} {v : sSe} : (s_b37 s v).es = s.es := by
  unfold s_b37
  rw [nw_es, wr_es_se]
theorem b37_bs {s : sSt} {v : sSe} : (s_b37 s v).bs = s.bs := by
  unfold s_b37
  rw [nw_bs, wr_bs_se]
theorem b37_cs {s : sSt} {v : sSe} : (s_b37 s v).cs = s.cs := by
  unfold s_b37
  rw [nw_cs, wr_cs_se]
theorem b37_dead {s : sSt} {v : sSe} : (s_b37 s v).dead = s.dead := by
  unfold s_b37
  rw [nw_dead, wr_dead_se]
theorem b37_facts {s : sSt} {v : sSe} : (s_b37 s v).facts = s.facts := by
  unfold s_b37
  rw [nw_facts, wr_facts_se]
theorem b37_sqs {s : sSt} {v : sSe} : (s_b37 s v).sqs = s.sqs := by
  unfold s_b37
  rw [nw_sqs, wr_sqs_se]
theorem b37_ses {s : sSt} {v : sSe} : (s_b37 s v).ses = s.ses := by
  unfold s_b37
  rw [nw_ses, wr_ses_se]
theorem b37_sbs {s : sSt} {v : sSe} : (s_b37 s v).sbs = s.sbs := by
  unfold s_b37
  rw [nw_sbs, wr_sbs_se]
theorem b37_sen {s : sSt} {v : sSe} : (s_b37 s v).sen = s.sen := by
  unfold s_b37
  rw [nw_sen, wr_sen_se]
theorem b37_messages {s : sSt} {v : sSe} : (s_b37 s v).messages = s.messages := by
  unfold s_b37
  rw [nw_messages, wr_messages_se]
theorem b37_lastNum {s : sSt} {v : sSe} : (s_b37 s v).lastNum = s.lastNum := by
  unfold s_b37
  rw [nw_lastNum, wr_lastNum_se]
theorem b37_gener {s : sSt} {v : sSe} : (s_b37 s v).gener = s.gener := by
  unfold s_b37
  rw [nw_gener, wr_gener_se]
theorem b37_clock {s : sSt} {v : sSe} : (s_b37 s v).clock = s.clock := by
  unfold s_b37
  rw [nw_clock, wr_clock_se]
theorem b37_deadOnes {s : sSt} {v : sSe} : (s_b37 s v).deadOnes = s.deadOnes := by
  unfold s_b37
  rw [nw_deadOnes, wr_deadOnes_se]
theorem b37_crashes {s : sSt} {v : sSe} : (s_b37 s v).crashes = s.crashes := by
  unfold s_b37
  rw [nw_crashes, wr_crashes_se]
theorem b37_tape {s : sSt} {v : sSe} : (s_b37 s v).tape = s.tape := by
  unfold s_b37
  rw [nw_tape, wr_tape_se]
theorem b37_next {s : sSt} {v : sSe} : (s_b37 s v).next = s.next + 1 := by
  unfold s_b37
  rw [nw_next, wr_next_se]
theorem b37_knd {s : sSt} {v : sSe} : (s_b37 s v).knd = sUp s.knd s.next 37 := by
  unfold s_b37
  rw [nw_knd, wr_knd_se, wr_next_se]
theorem bn37 {s : sSt} {v : sSe} : sBn s (s_b37 s v) 37 := ⟨b37_knd, fun j hj => ⟨by rw [b37_qu], by rw [b37_ex], by rw [b37_bi], by rw [b37_co], by rw [b37_en], by rw [b37_se]; exact sUp_ne hj⟩, b37_cn, b37_ch, b37_qs, b37_es, b37_bs, b37_cs, b37_dead, b37_facts, b37_sqs, b37_ses, b37_sbs, b37_sen, b37_tape⟩
theorem b37_at {s : sSt} {v : sSe} : (s_b37 s v).se s.next = v := by
  rw [b37_se]
  exact sUp_self
theorem b34_qu {s : sSt} {v : sBi} : (s_b34 s v).qu = s.qu := by
  unfold s_b34
  rw [nw_qu, wr_qu_bi]
theorem b34_ex {s : sSt} {v : sBi} : (s_b34 s v).ex = s.ex := by
  unfold s_b34
  rw [nw_ex, wr_ex_bi]
theorem b34_bi {s : sSt} {v : sBi} : (s_b34 s v).bi = sUp s.bi s.next v := by
  unfold s_b34
  rw [nw_bi, wr_bi]
theorem b34_co {s : sSt} {v : sBi} : (s_b34 s v).co = s.co := by
  unfold s_b34
  rw [nw_co, wr_co_bi]
theorem b34_en {s : sSt} {v : sBi} : (s_b34 s v).en = s.en := by
  unfold s_b34
  rw [nw_en, wr_en_bi]
theorem b34_se {s : sSt} {v : sBi} : (s_b34 s v).se = s.se := by
  unfold s_b34
  rw [nw_se, wr_se_bi]
theorem b34_cn {s : sSt} {v : sBi} : (s_b34 s v).cn = s.cn := by
  unfold s_b34
  rw [nw_cn, wr_cn_bi]
theorem b34_ch {s : sSt} {v : sBi} : (s_b34 s v).ch = s.ch := by
  unfold s_b34
  rw [nw_ch, wr_ch_bi]
theorem b34_qs {s : sSt} {v : sBi} : (s_b34 s v).qs = s.qs := by
  unfold s_b34
  rw [nw_qs, wr_qs_bi]
theorem b34_es {s : sSt} {v : sBi} : (s_b34 s v).es = s.es := by
  unfold s_b34
  rw [nw_es, wr_es_bi]
theorem b34_bs {s : sSt} {v : sBi} : (s_b34 s v).bs = s.bs := by
  unfold s_b34
  rw [nw_bs, wr_bs_bi]
theorem b34_cs {s : sSt} {v : sBi} : (s_b34 s v).cs = s.cs := by
  unfold s_b34
  rw [nw_cs, wr_cs_bi]
theorem b34_dead {s : sSt} {v : sBi} : (s_b34 s v).dead = s.dead := by
  unfold s_b34
  rw [nw_dead, wr_dead_bi]
theorem b34_facts {s : sSt} {v : sBi} : (s_b34 s v).facts = s.facts := by
  unfold s_b34
  rw [nw_facts, wr_facts_bi]
theorem b34_sqs {s : sSt} {v : sBi} : (s_b34 s v).sqs = s.sqs := by
  unfold s_b34
  rw [nw_sqs, wr_sqs_bi]
theorem b34_ses {s : sSt} {v : sBi} : (s_b34 s v).ses = s.ses := by
  unfold s_b34
  rw [nw_ses, wr_ses_bi]
theorem b34_sbs {s : sSt} {v : sBi} : (s_b34 s v).sbs = s.sbs := by
  unfold s_b34
  rw [nw_sbs, wr_sbs_bi]
theorem b34_sen {s : sSt} {v : sBi} : (s_b34 s v).sen = s.sen := by
  unfold s_b34
  rw [nw_sen, wr_sen_bi]
theorem b34_messages {s : sSt} {v : sBi} : (s_b34 s v).messages = s.messages := by
  unfold s_b34
  rw [nw_messages, wr_messages_bi]
theorem b34_lastNum {s : sSt} {v : sBi} : (s_b34 s v).lastNum = s.lastNum := by
  unfold s_b34
  rw [nw_lastNum, wr_lastNum_bi]
theorem b34_gener {s : sSt} {v : sBi} : (s_b34 s v).gener = s.gener := by
  unfold s_b34
  rw [nw_gener, wr_gener_bi]
theorem b34_clock {s : sSt} {v : sBi} : (s_b34 s v).clock = s.clock := by
  unfold s_b34
  rw [nw_clock, wr_clock_bi]
theorem b34_deadOnes {s : sSt} {v : sBi} : (s_b34 s v).deadOnes = s.deadOnes := by
  unfold s_b34
  rw [nw_deadOnes, wr_deadOnes_bi]
theorem b34_crashes {s : sSt} {v : sBi} : (s_b34 s v).crashes = s.crashes := by
  unfold s_b34
  rw [nw_crashes, wr_crashes_bi]
theorem b34_tape {s : sSt} {v : sBi} : (s_b34 s v).tape = s.tape := by
  unfold s_b34
  rw [nw_tape, wr_tape_bi]
theorem b34_next {s : sSt} {v : sBi} : (s_b34 s v).next = s.next + 1 := by
  unfold s_b34
  rw [nw_next, wr_next_bi]
theorem b34_knd {s : sSt} {v : sBi} : (s_b34 s v).knd = sUp s.knd s.next 34 := by
  unfold s_b34
  rw [nw_knd, wr_knd_bi, wr_next_bi]
theorem bn34 {s : sSt} {v : sBi} : sBn s (s_b34 s v) 34 := ⟨b34_knd, fun j hj => ⟨by rw [b34_qu], by rw [b34_ex], by rw [b34_bi]; exact sUp_ne hj, by rw [b34_co], by rw [b34_en], by rw [b34_se]⟩, b34_cn, b34_ch, b34_qs, b34_es, b34_bs, b34_cs, b34_dead, b34_facts, b34_sqs, b34_ses, b34_sbs, b34_sen, b34_tape⟩
theorem b34_at {s : sSt} {v : sBi} : (s_b34 s v).bi s.next = v := by
  rw [b34_bi]
  exact sUp_self
theorem b35_qu {s : sSt} {v : sCo} : (s_b35 s v).qu = s.qu := by
  unfold s_b35
  rw [nw_qu, wr_qu_co]
theorem b35_ex {s : sSt} {v : sCo} : (s_b35 s v).ex = s.ex := by
  unfold s_b35
  rw [nw_ex, wr_ex_co]
theorem b35_bi {s : sSt} {v : sCo} : (s_b35 s v).bi = s.bi := by
  unfold s_b35
  rw [nw_bi, wr_bi_co]
theorem b35_co {s : sSt} {v : sCo} : (s_b35 s v).co = sUp s.co s.next v := by
  unfold s_b35
  rw [nw_co, wr_co]
theorem b35_en {s : sSt} {v : sCo} : (s_b35 s v).en = s.en := by
  unfold s_b35
  rw [nw_en, wr_en_co]
theorem b35_se {s : sSt} {v : sCo} : (s_b35 s v).se = s.se := by
  unfold s_b35
  rw [nw_se, wr_se_co]
theorem b35_cn {s : sSt} {v : sCo} : (s_b35 s v).cn = s.cn := by
  unfold s_b35
  rw [nw_cn, wr_cn_co]
theorem b35_ch {s : sSt} {v : sCo} : (s_b35 s v).ch = s.ch := by
  unfold s_b35
  rw [nw_ch, wr_ch_co]
theorem b35_qs {s : sSt} {v : sCo} : (s_b35 s v).qs = s.qs := by
  unfold s_b35
  rw [nw_qs, wr_qs_co]
theorem b35_es {s : sSt} {v : sCo} : (s_b35 s v).es = s.es := by
  unfold s_b35
  rw [nw_es, wr_es_co]
theorem b35_bs {s : sSt} {v : sCo} : (s_b35 s v).bs = s.bs := by
  unfold s_b35
  rw [nw_bs, wr_bs_co]
theorem b35_cs {s : sSt} {v : sCo} : (s_b35 s v).cs = s.cs := by
  unfold s_b35
  rw [nw_cs, wr_cs_co]
theorem b35_dead {s : sSt} {v : sCo} : (s_b35 s v).dead = s.dead := by
  unfold s_b35
  rw [nw_dead, wr_dead_co]
theorem b35_facts {s : sSt} {v : sCo} : (s_b35 s v).facts = s.facts := by
  unfold s_b35
  rw [nw_facts, wr_facts_co]
theorem b35_sqs {s : sSt} {v : sCo} : (s_b35 s v).sqs = s.sqs := by
  unfold s_b35
  rw [nw_sqs, wr_sqs_co]
theorem b35_ses {s : sSt} {v : sCo} : (s_b35 s v).ses = s.ses := by
  unfold s_b35
  rw [nw_ses, wr_ses_co]
theorem b35_sbs {s : sSt} {v : sCo} : (s_b35 s v).sbs = s.sbs := by
  unfold s_b35
  rw [nw_sbs, wr_sbs_co]
theorem b35_sen {s : sSt} {v : sCo} : (s_b35 s v).sen = s.sen := by
  unfold s_b35
  rw [nw_sen, wr_sen_co]
theorem b35_messages {s : sSt} {v : sCo} : (s_b35 s v).messages = s.messages := by
  unfold s_b35
  rw [nw_messages, wr_messages_co]
theorem b35_lastNum {s : sSt} {v : sCo} : (s_b35 s v).lastNum = s.lastNum := by
  unfold s_b35
  rw [nw_lastNum, wr_lastNum_co]
theorem b35_gener {s : sSt} {v : sCo} : (s_b35 s v).gener = s.gener := by
  unfold s_b35
  rw [nw_gener, wr_gener_co]
theorem b35_clock {s : sSt} {v : sCo} : (s_b35 s v).clock = s.clock := by
  unfold s_b35
  rw [nw_clock, wr_clock_co]
theorem b35_deadOnes {s : sSt} {v : sCo} : (s_b35 s v).deadOnes = s.deadOnes := by
  unfold s_b35
  rw [nw_deadOnes, wr_deadOnes_co]
theorem b35_crashes {s : sSt} {v : sCo} : (s_b35 s v).crashes = s.crashes := by
  unfold s_b35
  rw [nw_crashes, wr_crashes_co]
theorem b35_tape {s : sSt} {v : sCo} : (s_b35 s v).tape = s.tape := by
  unfold s_b35
  rw [nw_tape, wr_tape_co]
theorem b35_next {s : sSt} {v : sCo} : (s_b35 s v).next = s.next + 1 := by
  unfold s_b35
  rw [nw_next, wr_next_co]
theorem b35_knd {s : sSt} {v : sCo} : (s_b35 s v).knd = sUp s.knd s.next 35 := by
  unfold s_b35
  rw [nw_knd, wr_knd_co, wr_next_co]
theorem bn35 {s : sSt} {v : sCo} : sBn s (s_b35 s v) 35 := ⟨b35_knd, fun j hj => ⟨by rw [b35_qu], by rw [b35_ex], by rw [b35_bi], by rw [b35_co]; exact sUp_ne hj, by rw [b35_en], by rw [b35_se]⟩, b35_cn, b35_ch, b35_qs, b35_es, b35_bs, b35_cs, b35_dead, b35_facts, b35_sqs, b35_ses, b35_sbs, b35_sen, b35_tape⟩
theorem b35_at {s : sSt} {v : sCo} : (s_b35 s v).co s.next = v := by
  rw [b35_co]
  exact sUp_self
theorem b32_qu {s : sSt} {v : sEx} : (s_b32 s v).qu = s.qu := by
  unfold s_b32
  rw [nw_qu, wr_qu_ex]
theorem b32_ex {s : sSt} {v : sEx} : (s_b32 s v).ex = sUp s.ex s.next v := by
  unfold s_b32
  rw [nw_ex, wr_ex]
theorem b32_bi {s : sSt} {v : sEx} : (s_b32 s v).bi = s.bi := by
  unfold s_b32
  rw [nw_bi, wr_bi_ex]
theorem b32_co {s : sSt} {v : sEx} : (s_b32 s v).co = s.co := by
  unfold s_b32
  rw [nw_co, wr_co_ex]
theorem b32_en {s : sSt} {v : sEx} : (s_b32 s v).en = s.en := by
  unfold s_b32
  rw [nw_en, wr_en_ex]
theorem b32_se {s : sSt} {v : sEx} : (s_b32 s v).se = s.se := by
  unfold s_b32
  rw [nw_se, wr_se_ex]
theorem b32_cn {s : sSt} {v : sEx} : (s_b32 s v).cn = s.cn := by
  unfold s_b32
  rw [nw_cn, wr_cn_ex]
theorem b32_ch {s : sSt} {v : sEx} : (s_b32 s v).ch = s.ch := by
  unfold s_b32
  rw [nw_ch, wr_ch_ex]
theorem b32_qs {s : sSt} {v : sEx} : (s_b32 s v).qs = s.qs := by
  unfold s_b32
  rw [nw_qs, wr_qs_ex]
theorem b32_es {s : sSt} {v : sEx} : (s_b32 s v).es = s.es := by
  unfold s_b32
  rw [nw_es, wr_es_ex]
theorem b32_bs {s : sSt} {v : sEx} : (s_b32 s v).bs = s.bs := by
  unfold s_b32
  rw [nw_bs, wr_bs_ex]
theorem b32_cs {s : sSt} {v : sEx} : (s_b32 s v).cs = s.cs := by
  unfold s_b32
  rw [nw_cs, wr_cs_ex]
theorem b32_dead {s : sSt} {v : sEx} : (s_b32 s v).dead = s.dead := by
  unfold s_b32
  rw [nw_dead, wr_dead_ex]
theorem b32_facts {s : sSt} {v : sEx} : (s_b32 s v).facts = s.facts := by
  unfold s_b32
  rw [nw_facts, wr_facts_ex]
theorem b32_sqs {s : sSt} {v : sEx} : (s_b32 s v).sqs = s.sqs := by
  unfold s_b32
  rw [nw_sqs, wr_sqs_ex]
theorem b32_ses {s : sSt} {v : sEx} : (s_b32 s v).ses = s.ses := by
  unfold s_b32
  rw [nw_ses, wr_ses_ex]
theorem b32_sbs {s : sSt} {v : sEx} : (s_b32 s v).sbs = s.sbs := by
  unfold s_b32
  rw [nw_sbs, wr_sbs_ex]
theorem b32_sen {s : sSt} {v : sEx} : (s_b32 s v).sen = s.sen := by
  unfold s_b32
  rw [nw_sen, wr_sen_ex]
theorem b32_messages {s : sSt} {v : sEx} : (s_b32 s v).messages = s.messages := by
  unfold s_b32
  rw [nw_messages, wr_messages_ex]
theorem b32_lastNum {s : sSt} {v : sEx} : (s_b32 s v).lastNum = s.lastNum := by
  unfold s_b32
  rw [nw_lastNum, wr_lastNum_ex]
theorem b32_gener {s : sSt} {v : sEx} : (s_b32 s v).gener = s.gener := by
  unfold s_b32
  rw [nw_gener, wr_gener_ex]
theorem b32_clock {s : sSt} {v : sEx} : (s_b32 s v).clock = s.clock := by
  unfold s_b32
  rw [nw_clock, wr_clock_ex]
theorem b32_deadOnes {s : sSt} {v : sEx} : (s_b32 s v).deadOnes = s.deadOnes := by
  unfold s_b32
  rw [nw_deadOnes, wr_deadOnes_ex]
theorem b32_crashes {s : sSt} {v : sEx} : (s_b32 s v).crashes = s.crashes := by
  unfold s_b32
  rw [nw_crashes, wr_crashes_ex]
theorem b32_tape {s : sSt} {v : sEx} : (s_b32 s v).tape = s.tape := by
  unfold s_b32
  rw [nw_tape, wr_tape_ex]
theorem b32_next {s : sSt} {v : sEx} : (s_b32 s v).next = s.next + 1 := by
  unfold s_b32
  rw [nw_next, wr_next_ex]
theorem b32_knd {s : sSt} {v : sEx} : (s_b32 s v).knd = sUp s.knd s.next 32 := by
  unfold s_b32
  rw [nw_knd, wr_knd_ex, wr_next_ex]
theorem bn32 {s : sSt} {v : sEx} : sBn s (s_b32 s v) 32 := ⟨b32_knd, fun j hj => ⟨by rw [b32_qu], by rw [b32_ex]; exact sUp_ne hj, by rw [b32_bi], by rw [b32_co], by rw [b32_en], by rw [b32_se]⟩, b32_cn, b32_ch, b32_qs, b32_es, b32_bs, b32_cs, b32_dead, b32_facts, b32_sqs, b32_ses, b32_sbs, b32_sen, b32_tape⟩
theorem b32_at {s : sSt} {v : sEx} : (s_b32 s v).ex s.next = v := by
  rw [b32_ex]
  exact sUp_self
theorem b33_qu {s : sSt} {v : sQu} : (s_b33 s v).qu = sUp s.qu s.next v := by
  unfold s_b33
  rw [nw_qu, wr_qu]
theorem b33_ex {s : sSt} {v : sQu} : (s_b33 s v).ex = s.ex := by
  unfold s_b33
  rw [nw_ex, wr_ex_qu]
theorem b33_bi {s : sSt} {v : sQu} : (s_b33 s v).bi = s.bi := by
  unfold s_b33
  rw [nw_bi, wr_bi_qu]
theorem b33_co {s : sSt} {v : sQu} : (s_b33 s v).co = s.co := by
  unfold s_b33
  rw [nw_co, wr_co_qu]
theorem b33_en {s : sSt} {v : sQu} : (s_b33 s v).en = s.en := by
  unfold s_b33
  rw [nw_en, wr_en_qu]
theorem b33_se {s : sSt} {v : sQu} : (s_b33 s v).se = s.se := by
  unfold s_b33
  rw [nw_se, wr_se_qu]
theorem b33_cn {s : sSt} {v : sQu} : (s_b33 s v).cn = s.cn := by
  unfold s_b33
  rw [nw_cn, wr_cn_qu]
theorem b33_ch {s : sSt} {v : sQu} : (s_b33 s v).ch = s.ch := by
  unfold s_b33
  rw [nw_ch, wr_ch_qu]
theorem b33_qs {s : sSt} {v : sQu} : (s_b33 s v).qs = s.qs := by
  unfold s_b33
  rw [nw_qs, wr_qs_qu]
theorem b33_es {s : sSt} {v : sQu} : (s_b33 s v).es = s.es := by
  unfold s_b33
  rw [nw_es, wr_es_qu]
theorem b33_bs {s : sSt} {v : sQu} : (s_b33 s v).bs = s.bs := by
  unfold s_b33
  rw [nw_bs, wr_bs_qu]
theorem b33_cs {s : sSt} {v : sQu} : (s_b33 s v).cs = s.cs := by
  unfold s_b33
  rw [nw_cs, wr_cs_qu]
theorem b33_dead {s : sSt} {v : sQu} : (s_b33 s v).dead = s.dead := by
  unfold s_b33
  rw [nw_dead, wr_dead_qu]
theorem b33_facts {s : sSt} {v : sQu} : (s_b33 s v).facts = s.facts := by
  unfold s_b33
  rw [nw_facts, wr_facts_qu]
theorem b33_sqs {s : sSt} {v : sQu} : (s_b33 s v).sqs = s.sqs := by
  unfold s_b33
  rw [nw_sqs, wr_sqs_qu]
theorem b33_ses {s : sSt} {v : sQu} : (s_b33 s v).ses = s.ses := by
  unfold s_b33
  rw [nw_ses, wr_ses_qu]
theorem b33_sbs {s : sSt} {v : sQu} : (s_b33 s v).sbs = s.sbs := by
  unfold s_b33
  rw [nw_sbs, wr_sbs_qu]
theorem b33_sen {s : sSt} {v : sQu} : (s_b33 s v).sen = s.sen := by
  unfold s_b33
  rw [nw_sen, wr_sen_qu]
theorem b33_messages {s : sSt} {v : sQu} : (s_b33 s v).messages = s.messages := by
  unfold s_b33
  rw [nw_messages, wr_messages_qu]
theorem b33_lastNum {s : sSt} {v : sQu} : (s_b33 s v).lastNum = s.lastNum := by
  unfold s_b33
  rw [nw_lastNum, wr_lastNum_qu]
theorem b33_gener {s : sSt} {v : sQu} : (s_b33 s v).gener = s.gener := by
  unfold s_b33
  rw [nw_gener, wr_gener_qu]
theorem b33_clock {s : sSt} {v : sQu} : (s_b33 s v).clock = s.clock := by
  unfold s_b33
  rw [nw_clock, wr_clock_qu]
theorem b33_deadOnes {s : sSt} {v : sQu} : (s_b33 s v).deadOnes = s.deadOnes := by
  unfold s_b33
  rw [nw_deadOnes, wr_deadOnes_qu]
theorem b33_crashes {s : sSt} {v : sQu} : (s_b33 s v).crashes = s.crashes := by
  unfold s_b33
  rw [nw_crashes, wr_crashes_qu]
theorem b33_tape {s : sSt} {v : sQu} : (s_b33 s v).tape = s.tape := by
  unfold s_b33
  rw [nw_tape, wr_tape_qu]
theorem b33_next {s : sSt} {v : sQu} : (s_b33 s v).next = s.next + 1 := by
  unfold s_b33
  rw [nw_next, wr_next_qu]
theorem b33_knd {s : sSt} {v : sQu} : (s_b33 s v).knd = sUp s.knd s.next 33 := by
  unfold s_b33
  rw [nw_knd, wr_knd_qu, wr_next_qu]
theorem bn33 {s : sSt} {v : sQu} : sBn s (s_b33 s v) 33 := ⟨b33_knd, fun j hj => ⟨by rw [b33_qu]; exact sUp_ne hj, by rw [b33_ex], by rw [b33_bi], by rw [b33_co], by rw [b33_en], by rw [b33_se]⟩, b33_cn, b33_ch, b33_qs, b33_es, b33_bs, b33_cs, b33_dead, b33_facts, b33_sqs, b33_ses, b33_sbs, b33_sen, b33_tape⟩
theorem b33_at {s : sSt} {v : sQu} : (s_b33 s v).qu s.next = v := by
  rw [b33_qu]
  exact sUp_self
theorem in_qu {s : sSt} {q m : Nat} {v : Int32} : (s_in s q m v).qu = sUp s.qu q ((s.qu q).w_ents ((s.qu q).ents ++ [m])) := by
  unfold s_in s_qu
  rw [wr_qu_messages, wr_qu]
theorem in_ex {s : sSt} {q m : Nat} {v : Int32} : (s_in s q m v).ex = s.ex := by
  unfold s_in s_qu
  rw [wr_ex_messages, wr_ex_qu]
theorem in_bi {s : sSt} {q m : Nat} {v : Int32} : (s_in s q m v).bi = s.bi := by
  unfold s_in s_qu
  rw [wr_bi_messages, wr_bi_qu]
theorem in_co {s : sSt} {q m : Nat} {v : Int32} : (s_in s q m v).co = s.co := by
  unfold s_in s_qu
  rw [wr_co_messages, wr_co_qu]
theorem in_en {s : sSt} {q m : Nat} {v : Int32} : (s_in s q m v).en = s.en := by
  unfold s_in s_qu
  rw [wr_en_messages, wr_en_qu]
theorem in_se {s : sSt} {q m : Nat} {v : Int32} : (s_in s q m v).se = s.se := by
  unfold s_in s_qu
  rw [wr_se_messages, wr_se_qu]
theorem in_cn {s : sSt} {q m : Nat} {v : Int32} : (s_in s q m v).cn = s.cn := by
  unfold s_in s_qu
  rw [wr_cn_messages, wr_cn_qu]
theorem in_ch {s : sSt} {q m : Nat} {v : Int32} : (s_in s q m v).ch = s.ch := by
  unfold s_in s_qu
  rw [wr_ch_messages, wr_ch_qu]
theorem in_qs {s : sSt} {q m : Nat} {v : Int32} : (s_in s q m v).qs = s.qs := by
  unfold s_in s_qu
  rw [wr_qs_messages, wr_qs_qu]
theorem in_es {s : sSt} {q m : Nat} {v : Int32} : (s_in s q m v).es = s.es := by
  unfold s_in s_qu
  rw [wr_es_messages, wr_es_qu]
theorem in_bs {s : sSt} {q m : Nat} {v : Int32} : (s_in s q m v).bs = s.bs := by
  unfold s_in s_qu
  rw [wr_bs_messages, wr_bs_qu]
theorem in_cs {s : sSt} {q m : Nat} {v : Int32} : (s_in s q m v).cs = s.cs := by
  unfold s_in s_qu
  rw [wr_cs_messages, wr_cs_qu]
theorem in_dead {s : sSt} {q m : Nat} {v : Int32} : (s_in s q m v).dead = s.dead := by
  unfold s_in s_qu
  rw [wr_dead_messages, wr_dead_qu]
theorem in_facts {s : sSt} {q m : Nat} {v : Int32} : (s_in s q m v).facts = s.facts := by
  unfold s_in s_qu
  rw [wr_facts_messages, wr_facts_qu]
theorem in_sqs {s : sSt} {q m : Nat} {v : Int32} : (s_in s q m v).sqs = s.sqs := by
  unfold s_in s_qu
  rw [wr_sqs_messages, wr_sqs_qu]
theorem in_ses {s : sSt} {q m : Nat} {v : Int32} : (s_in s q m v).ses = s.ses := by
  unfold s_in s_qu
  rw [wr_ses_messages, wr_ses_qu]
theorem in_sbs {s : sSt} {q m : Nat} {v : Int32} : (s_in s q m v).sbs = s.sbs := by
  unfold s_in s_qu
  rw [wr_sbs_messages, wr_sbs_qu]
theorem in_sen {s : sSt} {q m : Nat} {v : Int32} : (s_in s q m v).sen = s.sen := by
  unfold s_in s_qu
  rw [wr_sen_messages, wr_sen_qu]
theorem in_messages {s : sSt} {q m : Nat} {v : Int32} : (s_in s q m v).messages = v := by
  unfold s_in s_qu
  rw [wr_messages]
theorem in_lastNum {s : sSt} {q m : Nat} {v : Int32} : (s_in s q m v).lastNum = s.lastNum := by
  unfold s_in s_qu
  rw [wr_lastNum_messages, wr_lastNum_qu]
theorem in_gener {s : sSt} {q m : Nat} {v : Int32} : (s_in s q m v).gener = s.gener := by
  unfold s_in s_qu
  rw [wr_gener_messages, wr_gener_qu]
theorem in_clock {s : sSt} {q m : Nat} {v : Int32} : (s_in s q m v).clock = s.clock := by
  unfold s_in s_qu
  rw [wr_clock_messages, wr_clock_qu]
theorem in_deadOnes {s : sSt} {q m : Nat} {v : Int32} : (s_in s q m v).deadOnes = s.deadOnes := by
  unfold s_in s_qu
  rw [wr_deadOnes_messages, wr_deadOnes_qu]
theorem in_crashes {s : sSt} {q m : Nat} {v : Int32} : (s_in s q m v).crashes = s.crashes := by
  unfold s_in s_qu
  rw [wr_crashes_messages, wr_crashes_qu]
theorem in_tape {s : sSt} {q m : Nat} {v : Int32} : (s_in s q m v).tape = s.tape := by
  unfold s_in s_qu
  rw [wr_tape_messages, wr_tape_qu]
theorem in_next {s : sSt} {q m : Nat} {v : Int32} : (s_in s q m v).next = s.next := by
  unfold s_in s_qu
  rw [wr_next_messages, wr_next_qu]
theorem in_knd {s : sSt} {q m : Nat} {v : Int32} : (s_in s q m v).knd = s.knd := by
  unfold s_in s_qu
  rw [wr_knd_messages, wr_knd_qu]
section BN
variable {s s' : sSt} {c : Nat}
theorem sBn.kn (B : sBn s s' c) : s'.knd s.next = c := by rw [B.1]; exact sUp_self
theorem sBn.ko (B : sBn s s' c) {j : Nat} (hj : j ≠ s.next) : s'.knd j = s.knd j := by rw [B.1]; exact sUp_ne hj
/-- the main cell looks the same -/
theorem tMain_new {g : sG} {w : tW} {n : Nat} (hc : 32 ≤ c) (B : sBn s s' c) (hi : s'.messages = s.messages ∧ s'.lastNum = s.lastNum ∧ s'.gener = s.gener ∧ s'.clock = s.clock ∧ s'.deadOnes = s.deadOnes ∧ s'.crashes = s.crashes) : tMain s' w (gNw g n c s.next []) = tMain s w g := by
  have hr : ∀ a, a < 32 → (gNw g n c s.next []).ref a 0 = g.ref a 0 := fun a ha => if_neg fun e => by omega
  obtain ⟨-, -, -, -, Q1, Q2, Q3, Q4, Q5, Q6, Q7, Q8, Q9, Q10, Q11⟩ := B
  obtain ⟨i1, i2, i3, i4, i5, i6⟩ := hi
  unfold tMain
  rw [Q1, Q2, Q3, Q4, Q5, Q6, Q7, Q8, Q9, Q10, Q11, i1, i2, i3, i4, i5, i6, hr 4 (by decide), hr 5 (by decide), hr 6 (by decide), hr 7 (by decide), hr 8 (by decide), hr 9 (by decide), hr 10 (by decide), hr 11 (by decide), hr 12 (by decide), hr 13 (by decide), hr 14 (by decide), hr 15 (by decide), hr 16 (by decide), hr 17 (by decide), hr 18 (by decide), hr 19 (by decide), hr 20 (by decide), hr 21 (by decide), hr 22 (by decide), hr 23 (by decide), hr 24 (by decide)]
theorem sScope.born (I : sScope s) (B : sBn s s' c) (hn : s'.next = s.next + 1) (hc : 32 ≤ c ∧ c ≤ 37)
    (o33 : c = 33 → (s'.qu s.next).ents = [] ∧ (s'.qu s.next).last = none ∧ ∀ k, (s'.qu s.next).owner = some k → k < 4) (o34 : c = 34 → s.knd (s'.bi s.next).queue = 33 ∧ s.knd (s'.bi s.next).exch = 32)
    (o35 : c = 35 → s.knd (s'.co s.next).queue = 33 ∧ isH (s'.co s.next).chan) (o36 : c = 36 → s.knd (s'.en s.next).queue = 33) (o37 : c = 37 → s.knd (s'.se s.next).entry = 36 ∧ ∀ x, (s'.se s.next).cons = some x → s.knd x = 35) : sScope s' := by
  have h0 : s.knd s.next = 0 := I.new _ (Nat.le_refl _)
  have hk : ∀ j k, s.knd j = k → k ≠ 0 → s'.knd j = k := fun j k e e0 => by
    rw [B.ko (fun e1 => by rw [e1, h0] at e; exact e0 e.symm)]
    exact e
  obtain ⟨a1, a2, a3, a4, a5, a6, a7, a8, a9, a10, a11, a12, a13, a14, a15, a16, a17⟩ := I
  have hko := fun j hj => B.ko (j := j) hj
  have hkn := B.kn
  obtain ⟨B1, B2, B3, B4, Q1, Q2, Q3, Q4, Q5, Q6, Q7, Q8, Q9, Q10, Q11⟩ := B
  refine ⟨fun x hx => ?_, fun x hx => ?_, fun x hx => ?_, fun x hx => ?_, fun x hx => ?_, fun x hx => ?_, fun x hx => ?_, fun x hx => ?_, fun x hx => ?_, fun i hi => ?_, fun i hi => ?_, fun i hi => ?_, fun i hi => ?_, fun i hi => ?_, fun i hi => ?_, fun f hf => ?_, fun i hi => ?_⟩
  · rw [Q1] at hx; exact hk _ _ (a1 x hx) (by decide)
  · rw [Q2] at hx; exact hk _ _ (a2 x hx) (by decide)
  · rw [Q3] at hx; exact hk _ _ (a3 x hx) (by decide)
  · rw [Q4] at hx; exact hk _ _ (a4 x hx) (by decide)
  · rw [Q7] at hx; exact hk _ _ (a5 x hx) (by decide)
  · rw [Q8] at hx; exact hk _ _ (a6 x hx) (by decide)
  · rw [Q9] at hx; exact hk _ _ (a7 x hx) (by decide)
  · rw [Q10] at hx; exact hk _ _ (a8 x hx) (by decide)
  · rw [Q5] at hx; exact hk _ _ (a9 x hx) (by decide)
  · by_cases e : i = s.next
    · subst e
      rw [hkn] at hi
      obtain ⟨b1, b2, b3⟩ := o33 hi
      rw [b1, b2]
      exact ⟨fun m hm => (nomatch hm), fun x hx => (nomatch hx), b3⟩
    · rw [hko i e] at hi
      rw [(B2 i e).1]
      obtain ⟨b1, b2, b3⟩ := a10 i hi
      refine ⟨fun m hm => ⟨hk _ _ (b1 m hm).1 (by decide), ?_⟩, fun x hx => hk _ _ (b2 x hx) (by decide), b3⟩
      rw [(B2 m (fun e => by have := (b1 m hm).1; rw [e, h0] at this; cases this)).2.2.2.2.1]
      exact (b1 m hm).2
  · by_cases e : i = s.next
    · subst e
      rw [hkn] at hi
      exact ⟨hk _ _ (o34 hi).1 (by decide), hk _ _ (o34 hi).2 (by decide)⟩
    · rw [hko i e] at hi
      rw [(B2 i e).2.2.1]
      exact ⟨hk _ _ (a11 i hi).1 (by decide), hk _ _ (a11 i hi).2 (by decide)⟩
  · by_cases e : i = s.next
    · subst e
      rw [hkn] at hi
      exact ⟨hk _ _ (o35 hi).1 (by decide), (o35 hi).2⟩
    · rw [hko i e] at hi
      rw [(B2 i e).2.2.2.1]
      exact ⟨hk _ _ (a12 i hi).1 (by decide), (a12 i hi).2⟩
  · by_cases e : i = s.next
    · subst e
      rw [hkn] at hi
      exact hk _ _ (o36 hi) (by decide)
    · rw [hko i e] at hi
      rw [(B2 i e).2.2.2.2.1]
      exact hk _ _ (a13 i hi) (by decide)
  · by_cases e : i = s.next
    · subst e
      rw [hkn] at hi
      exact ⟨hk _ _ (o37 hi).1 (by decide), fun x hx => hk _ _ ((o37 hi).2 x hx) (by decide)⟩
    · rw [hko i e] at hi
      rw [(B2 i e).2.2.2.2.2]
      exact ⟨hk _ _ (a14 i hi).1 (by decide), fun x hx => hk _ _ ((a14 i hi).2 x hx) (by decide)⟩
  · rw [B4]
    obtain ⟨b1, b2⟩ := a15 i hi
    exact ⟨fun x hx => hk _ _ (b1 x hx) (by decide), fun k hk2 x hx => hk _ _ (b2 k hk2 x hx) (by decide)⟩
  · rw [Q6] at hf
    obtain ⟨b1, b2, b3⟩ := a16 f hf
    refine ⟨b1, b2, hk _ _ b3 ?_⟩
    split
    · decide
    · split
      · decide
      · split <;> decide
  · rw [hn] at hi
    rw [hko i (by omega)]
    exact a17 i (by omega)
theorem sScope.messages (I : sScope s) {v : Int32} : sScope (s.w_messages v) := I
theorem sScope.lastNum (I : sScope s) {v : Int32} : sScope (s.w_lastNum v) := I
theorem sScope.entAdd {q m : Nat} (I : sScope s) (hm : s.knd m = 36) (hq : (s.en m).queue = q) : sScope (s.w_qu (sUp s.qu q ((s.qu q).w_ents ((s.qu q).ents ++ [m])))) := by
  obtain ⟨a1, a2, a3, a4, a5, a6, a7, a8, a9, a10, a11⟩ := I
  refine ⟨a1, a2, a3, a4, a5, a6, a7, a8, a9, fun i hi => ?_, a11⟩
  show (∀ m ∈ (sUp s.qu q _ i).ents, s.knd m = 36 ∧ (s.en m).queue = i) ∧ (∀ y, (sUp s.qu q _ i).last = some y → s.knd y = 35) ∧ (∀ c, (sUp s.qu q _ i).owner = some c → c < 4)
  obtain ⟨b1, b2, b3⟩ := a10 i hi
  by_cases e : i = q
  · subst e
    rw [sUp_self]
    refine ⟨fun y hy => ?_, b2, b3⟩
    rcases List.mem_append.mp (show y ∈ (s.qu i).ents ++ [m] from hy) with e1 | e1
    · exact b1 y e1
    · rw [List.mem_singleton.mp e1]
      exact ⟨hm, hq⟩
  · rw [sUp_ne e]
    exact ⟨b1, b2, b3⟩
theorem sScope.in_ {q m : Nat} {v : Int32} (I : sScope s) (hm : s.knd m = 36) (hq : (s.en m).queue = q) : sScope (s_in s q m v) := (I.entAdd hm hq).messages
theorem sScope.tell' {i : Nat} (I : sScope s) {k : Int32} (h0 : 0 ≤ k) (h7 : k ≤ 7) (hi : s.knd i = (if k = 0 ∨ k = 1 then 32 else if k = 2 ∨ k = 3 then 33 else if k = 4 ∨ k = 5 then 34 else 36)) : sScope (s_tell s k i) := by
  obtain ⟨a1, a2, a3, a4, a5, a6, a7, a8, a9, a10, a11, a12, a13, a14, a15, a16, a17⟩ := I
  refine ⟨a1, a2, a3, a4, a5, a6, a7, a8, a9, a10, a11, a12, a13, a14, a15, fun f hf => ?_, a17⟩
  rcases List.mem_append.mp (show f ∈ s.facts ++ [(k, i)] from hf) with e | e
  · exact a16 f e
  · rw [List.mem_singleton.mp e]
    exact ⟨h0, h7, hi⟩
end BN
